section
/-! plain laws on ints -/
theorem md_two (x : Int32) : x * 2 = x + x := by grind
/-- both low bits set: the lowest is -/
theorem md_bit (x : Int32) (h : x &&& 3 = 3) : x &&& 1 = 1 := by
  have e : x &&& 1 = (x &&& 3) &&& 1 := by
    rw [Int32.and_assoc]
    rfl
  rw [e, h]
  rfl
/-! one lemma a method: the first meter is there always -/
theorem md_cell {post : Int32 → Prop} {L : Nat} {xs : Nat → Int32} {x : Int32} (k : Nat) (hx : x = nI k) (hk : k < 3) (hL : L ≤ 3) (h : ∀ v, post v) : wpL_cellAt post L xs () x :=
  pk_le L k (fun _ => h 0) (fun z => ⟨pk_in k L z hx, h _⟩) rfl hx
theorem md_x7 {post : Int32 → Prop} {a b z : Int32} (h0 : z = 0 → post (b + b)) (h1 : ¬ z = 0 → post (a + a)) : wpX7_twiceChosen post (a, b) z :=
  br_c (fun e => br_t rfl (by rw [md_two]; exact h0 e)) (fun e => br_c (fun f => by rw [md_two, f]; exact h1 e) (fun _ => h1 e))
theorem md_x8 {post : Int32 → Prop} {a b z : Int32} (h0 : z = 0 → post (b + b)) (h1 : ¬ z = 0 → post (a + a)) : wpX8_twiceChosen post (a, b) z :=
  br_c (fun e => h0 e) (fun e => h1 e)
/-- the second meter is null: the flag must be set -/
theorem md_x7n {post : Int32 → Prop} {a z : Int32} (hz : ¬ z = 0) (h : post (a + a)) : wpX7_twiceChosen_2 post a z := br_f hz h
theorem md_x8n {post : Int32 → Prop} {a z : Int32} (hz : ¬ z = 0) (h : post (a + a)) : wpX8_twiceChosen_2 post a z := br_f hz h
/-! the law's joins -/
theorem md_42 {mc ms kc ks : Nat} {x0 x1 z : Int32} : wL_lawOf_42 (fun r _ => r = 1) mc ms x0 x1 z kc ks x0 x1 :=
  md_x7 (fun e => md_x8 (fun _ => br_t rfl (br_t rfl (br_t rfl rfl))) (fun f => absurd e f))
    (fun e => md_x8 (fun f => absurd f e) (fun _ => br_t rfl (br_t rfl (br_t rfl rfl))))
theorem md_42n {mc ms kc ks : Nat} {x0 x1 z : Int32} (hz : ¬ z = 0) : wL_lawOf_42_2 (fun r _ => r = 1) mc ms x0 x1 z kc ks x0 :=
  md_x7n hz (md_x8n hz (br_t rfl (br_t rfl rfl)))
theorem md_12 {x0 x1 x2 z : Int32} (hz : x2 &&& 3 = 3 → ¬ z = 0) : wL_lawOf_12 (fun r _ => r = 1) 2 2 x0 x1 x2 z 0 0 :=
  And.intro (by omega) (And.intro (by omega) (br_c (fun e => md_42n (mc := 2) (ms := 2) (kc := 1) (ks := 1) (x1 := x1) (hz e)) (fun _ => And.intro (by omega) (And.intro (by omega) (md_42 (mc := 2) (ms := 2) (kc := 2) (ks := 2))))))
theorem md_of {p q k : Int32} : wpL_lawOf (fun r _ => r = 1) 2 2 () p q k :=
  br_c (fun _ => md_12 (fun _ => by decide)) (fun e => md_12 (fun f => absurd (md_bit k f) e))
end
section
theorem i_vc (xs : Nat → Int32) (L : Nat) (hL : L ≤ 3) : wpL_law (fun r => r = 1) L xs :=
  md_cell 0 rfl (by decide) hL (fun _ => md_cell 1 rfl (by decide) hL (fun _ => md_cell 2 rfl (by decide) hL (fun _ => ⟨2, 2, by omega, by omega, md_of⟩)))
end
