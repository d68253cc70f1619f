/-! the subsidy, the component -/
set_option maxRecDepth 100000
def sbN (k : Nat) : Int64 := Jshr 5000000000 (nI k)
section Subs
variable {G : Gx} {d : Nat} {h : AH} {ht : Nat}
theorem J0_min2_spec {x y : Int32} (hd : 1 ≤ d) : Cw G mJ0_min_2 d 0 [vI x, vI y] h (kI (fun r h' => r = (if y < x then y else x) ∧ h' = h) nE) := by
  obtain ⟨d, rfl⟩ : ∃ d', d = d' + 1 := ⟨d - 1, by omega⟩
  exact eJ0_min_2 h x y (fun _ => sJ0_min_2_0 h x y ⟨fun c => ⟨by rw [if_pos c], rfl⟩, fun c => ⟨by rw [if_neg c], rfl⟩⟩)
theorem X1_subsidy_spec (hd : 2 ≤ d) (hh : ht < 480) : Cw G mX1_subsidy d 0 [vI (nI ht)] h (kJ (fun x h' => x = sbN (ht / 12) ∧ h' = h) nE) := by
  obtain ⟨d, rfl⟩ : ∃ d', d = d' + 1 := ⟨d - 1, by omega⟩
  refine eX1_subsidy h (nI ht) (fun _ => sX1_subsidy_0 h (nI ht) ?_)
  rw [show (12 : Int32) = nI 12 from rfl, pk_div (by omega) (by decide) (by decide)]
  refine (J0_min2_spec (by omega)).nI (fun x1 h2 Q => ?_)
  obtain ⟨e1, e2⟩ := Q
  have lt : ¬ (40 : Int32) < nI (ht / 12) := fun q => (pk_lt (A := False) (B := True) 40 (ht / 12) (fun w => by omega) (fun _ => trivial)).1 q
  rw [if_neg lt] at e1
  exact ⟨by rw [e1]; rfl, e2⟩
end Subs
