/-! the reference: the place behind an operation -/
set_option maxRecDepth 100000
section Behind
variable {G : Gx} {d : Nat} {h : AH} {M t i e : Nat} {L : List Int32}
theorem bh_no (hz : opLen L i e = 0) : (kI (fun x h' => x = (if opLen L i e = 0 then -1 else nI (i + opLen L i e)) ∧ h' = h.pi 24063 M (nI (if opLen L i e = 0 then 0 else opSz L i))) nE) (.inl (some (vI (-1)))) (h.pi 24063 M 0) := ⟨by rw [if_pos hz], by rw [if_pos hz]; rfl⟩
theorem bh_yes {x : Int32} {h' : AH} (hz : opLen L i e ≠ 0) (hx : x = nI (i + opLen L i e)) (hh : h' = h.pi 24063 M (nI (opSz L i))) : (kI (fun x h' => x = (if opLen L i e = 0 then -1 else nI (i + opLen L i e)) ∧ h' = h.pi 24063 M (nI (if opLen L i e = 0 then 0 else opSz L i))) nE) (.inl (some (vI x))) h' := ⟨by rw [if_neg hz]; exact hx, by rw [if_neg hz]; exact hh⟩
/-- the size is known: it fits or not -/
theorem bh_size {k s : Nat} (hi : i + 1 + k ≤ e) (he : e < 2 ^ 20) (hs : s < 2 ^ 32) (h1 : opHd (ub L i) = k + 1) (h2 : opSz L i = s) :
    ((lN s ≤ (nI (e - i - 1) - nI k).toInt64 → ∀ h18 : AH, h18 = (h.pi 24063 M 0).pi 24063 M (lN s).toInt32 → (kI (fun x h' => x = (if opLen L i e = 0 then -1 else nI (i + opLen L i e)) ∧ h' = h.pi 24063 M (nI (if opLen L i e = 0 then 0 else opSz L i))) nE) (.inl (some (vI ((nI (i + 1) + nI k) + (h18.i 24063 M))))) h18) ∧ (¬ lN s ≤ (nI (e - i - 1) - nI k).toInt64 → (kI (fun x h' => x = (if opLen L i e = 0 then -1 else nI (i + opLen L i e)) ∧ h' = h.pi 24063 M (nI (if opLen L i e = 0 then 0 else opSz L i))) nE) (.inl (some (vI (-1)))) (h.pi 24063 M 0))) := by
  rw [pk_sub (by omega), nI_l (by omega), lN_le63 (by omega) (by omega), lN_i]
  refine ⟨fun c h18 e18 => ?_, fun c => bh_no ?_⟩
  · have ho : opLen L i e = k + 1 + s := by unfold opLen; rw [h1, h2, if_neg (by omega)]
    rw [AH.pi_pi] at e18
    refine bh_yes (by omega) ?_ (by rw [e18, h2])
    rw [e18, AH.i_pi, if_pos ⟨rfl, rfl⟩, nI_add, nI_add, ho]
    exact congrArg nI (by omega)
  · unfold opLen
    rw [h1, h2, if_pos (by omega)]
theorem bh_num {k : Nat} (hd : 1 ≤ d) (kt : h.kd t = 101) (eL : h.ai t = L) (hl : e ≤ L.length) (hl2 : L.length < 2 ^ 20) (hk : k = 1 ∨ k = 2 ∨ k = 4) (hi : i + 1 + k ≤ e) (h1 : opHd (ub L i) = k + 1) (h2 : opSz L i = leV L (i + 1) k) :
    Cw G mX24_number d 0 [vR M, vR t, vI (nI (i + 1)), vI (nI k)] (h.pi 24063 M 0) (kJ (fun x13 h14 => ((x13 ≤ (nI (e - i - 1) - nI k).toInt64 → ∀ h18 : AH, h18 = h14.pi 24063 M x13.toInt32 → (kI (fun x h' => x = (if opLen L i e = 0 then -1 else nI (i + opLen L i e)) ∧ h' = h.pi 24063 M (nI (if opLen L i e = 0 then 0 else opSz L i))) nE) (.inl (some (vI ((nI (i + 1) + nI k) + (h18.i 24063 M))))) h18) ∧ (¬ x13 ≤ (nI (e - i - 1) - nI k).toInt64 → (kI (fun x h' => x = (if opLen L i e = 0 then -1 else nI (i + opLen L i e)) ∧ h' = h.pi 24063 M (nI (if opLen L i e = 0 then 0 else opSz L i))) nE) (.inl (some (vI (-1)))) h14))) (fun x h_1 => (kI (fun x h' => x = (if opLen L i e = 0 then -1 else nI (i + opLen L i e)) ∧ h' = h.pi 24063 M (nI (if opLen L i e = 0 then 0 else opSz L i))) nE) (.inr x) h_1)) := by
  have nm := MD_number_spec (G := G) (M := M) (h := h.pi 24063 M 0) (t := t) (i := i + 1) (k := k) (by omega) hd kt (by show _ ≤ (h.ai t).length; rw [eL]; omega) (by show (h.ai t).length < _; rw [eL]; omega)
  refine nm.nJ (fun x13 h14 Q => ?_)
  have e1 : x13 = lN (leV L (i + 1) k) := Q.1.trans (by show lN (leV (h.ai t) (i + 1) k) = _; rw [eL])
  rw [e1, Q.2]
  refine bh_size hi (by omega) ?_ h1 h2
  have := leV_lt L (i + 1) k
  have h3 : (256 : Nat) ^ k ≤ 256 ^ 4 := Nat.pow_le_pow_right (by decide) (by omega)
  have h4 : (256 : Nat) ^ 4 = 2 ^ 32 := by decide
  omega
theorem MD_behind_spec (hd : 2 ≤ d) (kM : h.kd M = 24) (kt : h.kd t = 101) (eL : h.ai t = L) (hie : i < e) (hl : e ≤ L.length) (hl2 : L.length < 2 ^ 20) : Cw G mX24_behind d 0 [vR M, vR t, vI (nI i), vI (nI e)] h (kI (fun x h' => x = (if opLen L i e = 0 then -1 else nI (i + opLen L i e)) ∧ h' = h.pi 24063 M (nI (if opLen L i e = 0 then 0 else opSz L i))) nE) := by
  obtain ⟨d, rfl⟩ : ∃ d', d = d' + 1 := ⟨d - 1, by omega⟩
  have hu := ub_lt L i
  refine eX24_behind h M t (nI i) (nI e) (fun _ => sX24_behind_0 h M t (nI i) (nI e) ⟨kt, ?_⟩)
  rw [eL, pk_cl i rfl (by omega), and_ub]
  refine ⟨pk_in i _ (by omega), fun u3 e3 => ?_⟩
  subst e3
  refine ⟨kM, fun h5 e5 => ?_⟩
  subst e5
  have es : nI e - nI i - 1 = nI (e - i - 1) := by
    rw [pk_sub (by omega)]
    exact pk_sub (show 1 ≤ e - i by omega)
  rw [es, nI_1]
  have one : (78 < ub L i ∨ ub L i = 0) → (kI (fun x h' => x = (if opLen L i e = 0 then -1 else nI (i + opLen L i e)) ∧ h' = h.pi 24063 M (nI (if opLen L i e = 0 then 0 else opSz L i))) nE) (.inl (some (vI (nI (i + 1))))) (h.pi 24063 M 0) := fun z => by
    have h1 : opHd (ub L i) = 1 := by
      unfold opHd
      rw [if_neg (by omega), if_neg (by omega), if_neg (by omega)]
    have h2 : opSz L i = 0 := by
      unfold opSz
      by_cases c : ub L i < 76
      · rw [if_pos c]; omega
      · rw [if_neg c, h1]; rfl
    have ho : opLen L i e = 1 := by unfold opLen; rw [h1, h2, if_neg (by omega)]
    exact bh_yes (by omega) (by rw [ho]) (by rw [h2]; rfl)
  refine pk_lt 78 (ub L i) (fun c => one (Or.inl c)) (fun c => pk_eq' (ub L i) 0 (fun c0 => ?_) (fun c0 => one (Or.inr c0)) rfl rfl (by omega) (by omega))
  have bad : ∀ k, opHd (ub L i) = k + 1 → ¬ k ≤ e - i - 1 → (kI (fun x h' => x = (if opLen L i e = 0 then -1 else nI (i + opLen L i e)) ∧ h' = h.pi 24063 M (nI (if opLen L i e = 0 then 0 else opSz L i))) nE) (.inl (some (vI (-1)))) (h.pi 24063 M 0) := fun k h1 c1 => bh_no (by unfold opLen; rw [h1, if_pos (by omega)])
  have sz : ∀ k, ¬ ub L i < 76 → opHd (ub L i) = k + 1 → opSz L i = leV L (i + 1) k := fun k c1 h1 => by
    unfold opSz
    rw [if_neg c1, h1]
    rfl
  refine pk_le 76 (ub L i) (fun c1 => pk_eq' (ub L i) 76 (fun c2 => pk_eq' (ub L i) 77 (fun c3 => ?_) (fun c3 => ?_) rfl rfl (by omega) (by omega)) (fun c2 => ?_) rfl rfl (by omega) (by omega)) (fun c1 => ?_)
  · have h1 : opHd (ub L i) = 4 + 1 := by unfold opHd; rw [if_neg c2, if_neg c3, if_pos (by omega)]
    exact pk_le 4 (e - i - 1) (fun c4 => ⟨fun _ => bh_num (k := 4) (by omega) kt eL hl hl2 (Or.inr (Or.inr rfl)) (by omega) h1 (sz 4 (by omega) h1), fun c => absurd c (by decide)⟩) (fun c4 => bad 4 h1 (by omega))
  · have h1 : opHd (ub L i) = 2 + 1 := by unfold opHd; rw [if_neg c2, if_pos c3]
    exact pk_le 2 (e - i - 1) (fun c4 => ⟨fun _ => bh_num (k := 2) (by omega) kt eL hl hl2 (Or.inr (Or.inl rfl)) (by omega) h1 (sz 2 (by omega) h1), fun c => absurd c (by decide)⟩) (fun c4 => bad 2 h1 (by omega))
  · have h1 : opHd (ub L i) = 1 + 1 := by unfold opHd; rw [if_pos c2]
    exact pk_le 1 (e - i - 1) (fun c4 => ⟨fun _ => bh_num (k := 1) (by omega) kt eL hl hl2 (Or.inl rfl) (by omega) h1 (sz 1 (by omega) h1), fun c => absurd c (by decide)⟩) (fun c4 => bad 1 h1 (by omega))
  · have h1 : opHd (ub L i) = 0 + 1 := by unfold opHd; rw [if_neg (by omega), if_neg (by omega), if_neg (by omega)]
    have h2 : opSz L i = ub L i := by unfold opSz; rw [if_pos (by omega)]
    rw [nI_l (by omega)]
    exact pk_le 0 (e - i - 1) (fun c4 => ⟨fun c => absurd (by decide) c, fun _ => bh_size (k := 0) (by omega) (by omega) (by omega) h1 h2⟩) (fun c4 => bad 0 h1 (by omega))
end Behind
