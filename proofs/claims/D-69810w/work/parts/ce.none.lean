/-! an input that takes nothing, the component -/
set_option maxRecDepth 100000
/-- 32 zeros and the highest index -/
def nonB (L : List Int32) (pos v : Nat) : Bool := decide (sub_ L pos 32 = List.replicate 32 0) && decide (v = 4294967295)
theorem zer_iff {L : List Int32} {pos : Nat} : sub_ L pos 32 = List.replicate 32 0 ↔ ∀ i, i < 32 → L.getD (pos + i) 0 = 0 := by
  have g : ∀ i, i < 32 → (List.replicate 32 (0 : Int32)).getD i 0 = 0 := fun i hi => by
    rw [List.getD_eq_getElem?_getD, List.getElem?_replicate, if_pos hi]
    rfl
  refine ⟨fun e i hi => ?_, fun e => ext_getD (z := 0) (by rw [sub_len, List.length_replicate]) (fun i hi => ?_)⟩
  · rw [← sub_getD (n := 32) hi, e, g i hi]
  · rw [sub_len] at hi
    rw [sub_getD hi, e i hi, g i hi]
theorem nI_m1 {v : Nat} (hv : v < 4294967296) : nI v = -1 ↔ v = 4294967295 := by
  refine ⟨fun e => ?_, fun e => by rw [e]; decide⟩
  have e2 : nI v = nI 4294967295 := e.trans (by decide)
  have := congrArg u32 e2
  rw [u32_nIs hv, u32_nIs (by decide)] at this
  exact this
section None_
variable {G : Gx} {d : Nat} {h : AH} {ba i pos v : Nat} {L : List Int32}
theorem X1_isNone_spec (hd : 1 ≤ d) (ka : h.kd ba = 101) (eL : h.ai ba = L) (ki : h.kd i = 19) (i0 : h.i 19000 i = nI pos) (i1 : h.i 19001 i = nI v) (hv : v < 4294967296) (hl : pos + 32 ≤ L.length) (hl2 : L.length < 2 ^ 31) : Cw G mX1_isNone d 0 [vR ba, vR i] h (kI (fun x h' => x = bB (nonB L pos v) ∧ h' = h) nE) := by
  obtain ⟨d, rfl⟩ : ∃ d', d = d' + 1 := ⟨d - 1, by omega⟩
  refine eX1_isNone h ba i (fun _ => sX1_isNone_0 h ba i ?_)
  refine loop_uc (n := 32) (P := fun k (_ : Unit) => Aw G mX1_isNone (d + 1) 0 h (kI (fun x h' => x = bB (nonB L pos v) ∧ h' = h) nE) 2 [vR ba, vR i, vI (nI k)] [] h) (fun k _ => ∀ q, q < k → L.getD (pos + q) 0 = 0) (fun k _ hk hI ih => ?_) 0 () (Nat.zero_le _) (fun q hq => absurd hq (Nat.not_lt_zero _))
  refine sX1_isNone_2 h ba i (nI k) (pk_le 32 k (fun z => ⟨ki, ?_⟩) (fun z => ⟨ki, ka, ?_⟩))
  · obtain rfl : k = 32 := by omega
    rw [i1, nI_m1 hv]
    unfold nonB
    rw [decide_eq_true (zer_iff.mpr hI), Bool.true_and]
    exact ⟨fun c => ⟨by rw [decide_eq_false c]; rfl, rfl⟩, fun c => ⟨by rw [decide_eq_true c]; rfl, rfl⟩⟩
  · rw [i0, nI_add, eL, pk_cl (pos + k) rfl (by omega), nI_1]
    refine ⟨pk_in (pos + k) L.length (by omega), fun c => ih (by omega) () (fun q hq => ?_), fun c => ⟨?_, rfl⟩⟩
    · by_cases e : q = k
      · rw [e]; exact c
      · exact hI q (by omega)
    · unfold nonB
      rw [decide_eq_false (show ¬ sub_ L pos 32 = List.replicate 32 0 from fun w => c (zer_iff.mp w k (by omega)))]
      rfl
end None_
