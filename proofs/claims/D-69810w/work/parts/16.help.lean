/-! small facts that the printed segments name -/
set_option maxRecDepth 100000
theorem nz {k : Nat} (h : Nat.beq k 0 = false) : k ≠ 0 := fun e => by subst e; cases h
theorem nm {l : List Nat} {k : Nat} (h : l.elem k = false) : k ∉ l := fun e => by rw [List.elem_eq_true_of_mem e] at h; cases h
theorem em {l : List Nat} {k : Nat} (h : l.elem k = true) : k ∈ l := List.mem_of_elem_eq_true h
theorem fps {l l' : List Nat} (h : l.all (fun k => l'.elem k) = true) : ∀ k, k ∈ l → k ∈ l' := fun k hk => List.mem_of_elem_eq_true (List.all_eq_true.mp h k hk)
theorem nzk {x k : Nat} (e : x = k) (h : Nat.beq k 0 = false) : x ≠ 0 := by rw [e]; exact nz h
theorem le_of_eq_r {x k : Nat} (e : x = k) (h : 104 ≤ k ∧ k < 116) : 104 ≤ x ∧ x < 116 := by rw [e]; exact h
theorem al_lt {x k : Nat} (e : x = k) (h : (k.blt 103 && Nat.ble 100 k) = true) : x < 103 ∧ 100 ≤ x := by
  rw [e]
  simp only [Bool.and_eq_true] at h
  exact ⟨Nat.le_of_ble_eq_true h.1, Nat.le_of_ble_eq_true h.2⟩
theorem nar_z {x : Int32} (h : x = 0 ∨ x = 1) : narrow .boolean (.int x) = .int x := by rcases h with h | h <;> rw [h] <;> decide
theorem sw_out {x : Int32} {lo : Int} {n : Nat} (hb : (-2147483648 ≤ lo ∧ lo + n ≤ 2147483647) ) (h : ∀ i : Nat, i < n → ¬ x = Int32.ofInt (lo + i)) : x.toInt < lo ∨ lo + n - 1 < x.toInt := by
  by_cases h1 : x.toInt < lo
  · exact Or.inl h1
  · by_cases h2 : lo + n - 1 < x.toInt
    · exact Or.inr h2
    · exfalso
      refine h (x.toInt - lo).toNat (by omega) ?_
      have e : lo + ((x.toInt - lo).toNat : Int) = x.toInt := by omega
      rw [e, Int32.ofInt_toInt]
section HelpNew
variable {G : Gx} {X : Mx} {d t : Nat} {h0 h h1 : AH} {Φ : Out → AH → Prop} {pc n k j key a q : Nat} {lv st : List AV} {ai : List Int32} {al : List Int64} {ar : List Nat}
theorem r_nameH (kk : ∀ h1, h1 = h → Aw G X d t h0 Φ pc lv st h1) : Aw G X d t h0 Φ pc lv st h := kk h rfl
theorem kd_newE (e : h1 = h.new j n ai al ar) (w : WF G h) (hk : h.kd a = k) (hk0 : k ≠ 0) : h1.kd a = k := by rw [e]; exact kd_new w hk hk0
theorem kd_newSE (e : h1 = h.new k n ai al ar) (hq : q = h.z) : h1.kd q = k := by rw [e]; exact kd_newS hq
theorem fr_newE (e : h1 = h.new j n ai al ar) (w : WF G h) (hk : h.kd a = k) (hk0 : k ≠ 0) : h1.r key a = h.r key a := by rw [e]; exact fr_new w hk hk0
theorem fi_newE (e : h1 = h.new j n ai al ar) (w : WF G h) (hk : h.kd a = k) (hk0 : k ≠ 0) : h1.i key a = h.i key a := by rw [e]; exact fi_new w hk hk0
theorem fl_newE (e : h1 = h.new j n ai al ar) (w : WF G h) (hk : h.kd a = k) (hk0 : k ≠ 0) : h1.l key a = h.l key a := by rw [e]; exact fl_new w hk hk0
end HelpNew
