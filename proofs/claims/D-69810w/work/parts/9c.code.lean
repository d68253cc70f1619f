/-! the code that is signed, by the component -/
set_option maxRecDepth 100000
def hdG (g : List Int32) : Nat := if g.length < 76 then 1 else 2
/-- whether the bytes of g stand at j -/
def sameB (C : List Int32) (j : Nat) (g : List Int32) : Bool := decide (sub_ C j g.length = g)
/-- whether at i the bytes g are pushed -/
def metB (C : List Int32) (n i : Nat) (g : List Int32) : Bool := decide (i + hdG g + g.length ≤ n) && (if g.length < 76 then decide (ub C i = g.length) else decide (ub C i = 76) && decide (ub C (i + 1) = g.length)) && sameB C (i + hdG g) g
/-- the operation at i, or all that is left -/
def pieceP (C : List Int32) (n i : Nat) : Nat := if opLen C i n = 0 then n - i else opLen C i n
theorem pieceP_le {C : List Int32} {n i : Nat} (h : i < n) : 1 ≤ pieceP C n i ∧ i + pieceP C n i ≤ n := by
  have := opLen_le (L := C) (i := i) (e := n)
  unfold pieceP
  split <;> omega
theorem hdG_pos (g : List Int32) : 1 ≤ hdG g ∧ hdG g ≤ 2 := by
  unfold hdG
  split <;> omega
/-- the code without pushes of g, from i on -/
def clnF (C : List Int32) (n : Nat) (g : List Int32) : Nat → Nat → List Int32
  | 0, _ => []
  | k + 1, i => if n ≤ i then [] else if metB C n i g = true then clnF C n g k (i + hdG g + g.length) else sub_ C i (pieceP C n i) ++ clnF C n g k (i + pieceP C n i)
theorem clnF_more (C : List Int32) (n : Nat) (g : List Int32) : ∀ k i j, n ≤ i + k → clnF C n g (k + j) i = clnF C n g k i
  | 0, i, j, h => by
    cases j with
    | zero => rfl
    | succ j =>
      rw [Nat.zero_add]
      show (if n ≤ i then [] else _) = []
      rw [if_pos (by omega)]
  | k + 1, i, j, h => by
    rw [show k + 1 + j = (k + j) + 1 by omega, clnF, clnF]
    have := hdG_pos g
    split
    · rfl
    · split
      · rw [clnF_more C n g k _ j (by omega)]
      · have := pieceP_le (C := C) (n := n) (i := i) (by omega)
        rw [clnF_more C n g k _ j (by omega)]
def clnP (C : List Int32) (n : Nat) (g : List Int32) : List Int32 := clnF C n g n 0
theorem clnF_len (C : List Int32) (n : Nat) (g : List Int32) : ∀ k i, i ≤ n → (clnF C n g k i).length ≤ n - i
  | 0, i, _ => by rw [clnF]; simp
  | k + 1, i, h => by
    rw [clnF]
    split
    · simp
    · split
      · rename_i c1 c2
        have hm : i + hdG g + g.length ≤ n := by
          unfold metB at c2
          simp only [Bool.and_eq_true, decide_eq_true_eq] at c2
          exact c2.1.1
        have := clnF_len C n g k _ hm
        omega
      · have h1 := pieceP_le (C := C) (n := n) (i := i) (by omega)
        have := clnF_len C n g k (i + pieceP C n i) h1.2
        rw [List.length_append, sub_len]
        omega
section Code
variable {G : Gx} {d : Nat} {h : AH} {Mc D a b e : Nat}
theorem Mc_code_spec (hd : 1 ≤ d) (H : MchS h Mc D) (ka : h.kd a = 101) (na : a ≠ Mc + 5) (hbe : b ≤ e) (hl : e ≤ (h.ai a).length) (hl2 : (h.ai a).length < 2 ^ 31) (hn : e - b ≤ 1600) : Cw G mX7_code d 0 [vR Mc, vR a, vI (nI b), vI (nI e)] h (kI (fun x h' => x = nI (e - b) ∧ h' = h.wi (Mc + 5) (putB (h.ai (Mc + 5)) 0 (e - b) (fun i => (h.ai a).getD (b + i) 0))) nE) := by
  obtain ⟨d, rfl⟩ : ∃ d', d = d' + 1 := ⟨d - 1, by omega⟩
  refine eX7_code h Mc a (nI b) (nI e) (fun w => sX7_code_0 h Mc a (nI b) (nI e) ?_)
  have hB := w.isB ka
  have l5 : (h.ai (Mc + 5)).length = 1600 := H.2.2.2.2.2.2.2.1
  have key := loop_uc (n := e - b) (P := fun k (T : List Int32) => Aw G mX7_code (d + 1) 0 h (kI (fun x h' => x = nI (e - b) ∧ h' = h.wi (Mc + 5) (putB (h.ai (Mc + 5)) 0 (e - b) (fun i => (h.ai a).getD (b + i) 0))) nE) 3 [vR Mc, vR a, vI (nI b), vI (nI e), vI (nI (b + k))] [] (h.wi (Mc + 5) T))
    (fun k T => T = putB (h.ai (Mc + 5)) 0 k (fun i => (h.ai a).getD (b + i) 0)) (fun k T hk hI ih => ?_) 0 (h.ai (Mc + 5)) (Nat.zero_le _) (putB_0 _ _ _).symm
  · rw [AH.wi_self] at key; exact key
  · subst hI
    refine sX7_code_3 _ Mc a (nI b) (nI e) (nI (b + k)) (pk_le e (b + k) (fun c => ⟨pk_sub hbe, ?_⟩) (fun c => ⟨H.1, fun r3 e3 => ?_⟩))
    · rw [show k = e - b by omega]
    · have e3' : r3 = Mc + 5 := e3.trans H.2.1.2.2.2.2.2.1
      subst e3'
      rw [AH.ai_wiN na, AH.ai_wiS, putB_len, l5, AH.wi_wi, pk_cl (b + k) rfl (by omega), pk_sub (by omega), Nat.add_sub_cancel_left, pk_cl k rfl (by omega), hB]
      refine ⟨ka, pk_in (b + k) _ (by omega), H.2.2.1.2.2.2.2.1, pk_in k 1600 (by omega), fun h8 e8 => ?_⟩
      rw [e8, nI_1]
      refine ih (by omega) _ ?_
      have := putB_succ (L := h.ai (Mc + 5)) (off := 0) (n := k) (g := fun i => (h.ai a).getD (b + i) 0) (x := (h.ai a).getD (b + k) 0) (by omega) rfl
      rw [Nat.zero_add] at this
      exact this
theorem sub_put {W : List Int32} {o n k : Nat} {f : Nat → Int32} {acc : List Int32} (hW : sub_ W 0 o = acc) (ho : o + n ≤ W.length) (hk : k = n) : sub_ (putB W o n f) 0 (o + k) = acc ++ (List.range n).map f := by
  subst hk
  refine ext_getD (z := 0) (by rw [sub_len, List.length_append, mapR_len, ← hW, sub_len]) (fun i hi => ?_)
  rw [sub_len] at hi
  rw [sub_getD hi, Nat.zero_add, putB_getD _ _ _ _ (by omega), List.getD_eq_getElem?_getD (l := acc ++ _), List.getElem?_append]
  have la : acc.length = o := by rw [← hW, sub_len]
  by_cases c : i < o
  · rw [if_neg (by omega), if_pos (by omega), ← List.getD_eq_getElem?_getD, ← hW, sub_getD c, Nat.zero_add]
  · rw [if_pos (by omega), if_neg (by omega), ← List.getD_eq_getElem?_getD, mapR_getD (by omega), la]
theorem cl_242 {x n : Nat} {g W : List Int32} (H : MchS h Mc D) (hW : W.length = 1600) (hacc : sub_ W 0 (clnP (h.ai (Mc + 5)) n g).length = clnP (h.ai (Mc + 5)) n g) (hn : (clnP (h.ai (Mc + 5)) n g).length ≤ 1600) (hB : isB W) :
    Aw G mX7_cleaned (d + 1) 0 h (kI (fun r h' => r = nI (clnP (h.ai (Mc + 5)) n g).length ∧ Mod (fun y => y = Mc + 5 ∨ y = Mc + 6) h h' ∧ sub_ (h'.ai (Mc + 5)) 0 (clnP (h.ai (Mc + 5)) n g).length = clnP (h.ai (Mc + 5)) n g) nE) 242 [vR Mc, vR (Mc + 5), vU, vU, vI (nI (clnP (h.ai (Mc + 5)) n g).length), vU, vU, vI (nI 0), vU, vU] [] (h.wi (Mc + 6) W) := by
  have l5 : (h.ai (Mc + 5)).length = 1600 := H.2.2.2.2.2.2.2.1
  have l6 : (h.ai (Mc + 6)).length = 1600 := H.2.2.2.2.2.2.2.2.1
  have n56 : Mc + 5 ≠ Mc + 6 := by omega
  generalize hm : (clnP (h.ai (Mc + 5)) n g).length = m at *
  have key := loop_uc (n := m) (P := fun k (T : List Int32) => Aw G mX7_cleaned (d + 1) 0 h (kI (fun r h' => r = nI m ∧ Mod (fun y => y = Mc + 5 ∨ y = Mc + 6) h h' ∧ sub_ (h'.ai (Mc + 5)) 0 m = clnP (h.ai (Mc + 5)) n g) nE) 242 [vR Mc, vR (Mc + 5), vU, vU, vI (nI m), vU, vU, vI (nI k), vU, vU] [] ((h.wi (Mc + 6) W).wi (Mc + 5) T))
    (fun k T => T = putB (h.ai (Mc + 5)) 0 k (fun i => W.getD i 0)) (fun k T hk hI ih => ?_) 0 (h.ai (Mc + 5)) (Nat.zero_le _) (putB_0 _ _ _).symm
  · rw [AH.wi_comm h _ _ (fun e => n56 e.symm), AH.wi_self] at key
    exact key
  · subst hI
    refine sX7_cleaned_242 _ Mc (Mc + 5) (nI m) (nI k) (pk_le m k (fun c => ⟨rfl, ?_, ?_⟩) (fun c => ⟨H.1, fun r3 e3 => ?_⟩))
    · exact (Mod.wi (by rw [hW, l6]) (Or.inr rfl)).trans (Mod.wi (by rw [putB_len, AH.ai_wiN n56]) (Or.inl rfl))
    · rw [AH.ai_wiS, show k = m by omega, ← hacc]
      refine ext_getD (z := 0) (by rw [sub_len, sub_len]) (fun i hi => ?_)
      rw [sub_len] at hi
      rw [sub_getD hi, sub_getD hi, Nat.zero_add, putB_getD _ _ _ _ (by omega), if_pos ⟨Nat.zero_le _, by omega⟩, Nat.sub_zero]
    · have e3' : r3 = Mc + 6 := e3.trans H.2.1.2.2.2.2.2.2.1
      subst e3'
      have e6 : ((h.wi (Mc + 6) W).wi (Mc + 5) (putB (h.ai (Mc + 5)) 0 k (fun i => W.getD i 0))).ai (Mc + 6) = W := by rw [AH.ai_wiN (fun e => n56 e.symm), AH.ai_wiS]
      rw [e6, AH.ai_wiS, putB_len, hW, l5, AH.wi_wi, pk_cl k rfl (by omega), hB]
      refine ⟨H.2.2.1.2.2.2.2.2.1, pk_in k 1600 (by omega), H.2.2.1.2.2.2.2.1, pk_in k 1600 (by omega), fun h8 e8 => ?_⟩
      rw [e8, nI_1]
      refine ih c _ ?_
      have := putB_succ (L := h.ai (Mc + 5)) (off := 0) (n := k) (g := fun i => W.getD i 0) (x := W.getD k 0) (by omega) rfl
      rw [Nat.zero_add] at this
      exact this
set_option maxHeartbeats 1000000 in
theorem Mc_cleaned_spec {x n : Nat} {g : List Int32} (hd : 2 ≤ d) (H : MchS h Mc D) (ex : ElAt h x g) (hxM : Mc + 8 < x) (hn : n ≤ 1600) : Cw G mX7_cleaned d 0 [vR Mc, vR (Mc + 5), vI (nI n), vR x] h (kI (fun r h' => r = nI (clnP (h.ai (Mc + 5)) n g).length ∧ Mod (fun y => y = Mc + 5 ∨ y = Mc + 6) h h' ∧ sub_ (h'.ai (Mc + 5)) 0 (clnP (h.ai (Mc + 5)) n g).length = clnP (h.ai (Mc + 5)) n g) nE) := by
  obtain ⟨d, rfl⟩ : ∃ d', d = d' + 1 := ⟨d - 1, by omega⟩
  have l5 : (h.ai (Mc + 5)).length = 1600 := H.2.2.2.2.2.2.2.1
  have l6 : (h.ai (Mc + 6)).length = 1600 := H.2.2.2.2.2.2.2.2.1
  have k5 : h.kd (Mc + 5) = 101 := H.2.2.1.2.2.2.2.1
  have n56 : Mc + 5 ≠ Mc + 6 := by omega
  have gl := ex.2.2.1
  have hhd := hdG_pos g
  refine eX7_cleaned h Mc (Mc + 5) (nI n) x (fun w => sX7_cleaned_0 h Mc (Mc + 5) (nI n) x ⟨ex.1.1, ?_⟩)
  have hB5 := w.isB k5
  have hB6 := w.isB H.2.2.1.2.2.2.2.2.1
  generalize eL : h.ai (Mc + 5) = L at *
  have start : Aw G mX7_cleaned (d + 1) 0 h (kI (fun r h' => r = nI (clnP L n g).length ∧ Mod (fun y => y = Mc + 5 ∨ y = Mc + 6) h h' ∧ sub_ (h'.ai (Mc + 5)) 0 (clnP L n g).length = clnP L n g) nE) 22 [vR Mc, vR (Mc + 5), vI (nI n), vR x, vI (nI 0), vI (nI (hdG g)), vI (nI 0), vU, vU, vU] [] h := by
    have key := loop_wf (P := fun y : List Int32 × List Int32 × Nat => Aw G mX7_cleaned (d + 1) 0 h (kI (fun r h' => r = nI (clnP L n g).length ∧ Mod (fun y => y = Mc + 5 ∨ y = Mc + 6) h h' ∧ sub_ (h'.ai (Mc + 5)) 0 (clnP L n g).length = clnP L n g) nE) 22 [vR Mc, vR (Mc + 5), vI (nI n), vR x, vI (nI y.2.1.length), vI (nI (hdG g)), vI (nI y.2.2), vU, vU, vU] [] (h.wi (Mc + 6) y.1))
      (fun y => n - y.2.2) (fun y => y.1.length = 1600 ∧ isB y.1 ∧ y.2.2 ≤ n ∧ y.2.1.length ≤ y.2.2 ∧ sub_ y.1 0 y.2.1.length = y.2.1 ∧ clnP L n g = y.2.1 ++ clnF L n g (n - y.2.2) y.2.2) (fun y hI ih => ?_) (h.ai (Mc + 6), [], 0) ⟨l6, hB6, Nat.zero_le _, Nat.le_refl _, rfl, by rw [Nat.sub_zero]; rfl⟩
    · dsimp only at key
      rw [AH.wi_self] at key
      exact key
    · obtain ⟨W, acc, i⟩ := y
      obtain ⟨lW, bW, hi, hai, sW, hP⟩ := hI
      dsimp only at lW bW hi hai sW hP ih ⊢
      have exW : ElAt (h.wi (Mc + 6) W) x g := ⟨ex.1.1 |> fun z => ⟨z, ex.1.2.1, ex.1.2.2.1, by rw [AH.ai_wiN (by omega)]; exact ex.1.2.2.2⟩, ex.2.1, gl, by rw [AH.ai_wiN (by omega)]; exact ex.2.2.2⟩
      have eLW : (h.wi (Mc + 6) W).ai (Mc + 5) = L := by rw [AH.ai_wiN n56]; exact eL
      have eg1 : (h.wi (Mc + 6) W).ai (x + 1) = h.ai (x + 1) := AH.ai_wiN (by omega)
      refine sX7_cleaned_22 _ Mc (Mc + 5) (nI n) x (nI acc.length) (nI (hdG g)) (nI i) (pk_le n i (fun c => ?_) (fun c => ⟨exW.1.1, ?_⟩))
      · have hPe : clnP L n g = acc := by rw [hP, show n - i = 0 by omega]; exact List.append_nil _
        have := cl_242 (G := G) (d := d) (x := x) (n := n) (g := g) (W := W) H lW (by rw [eL, hPe]; exact sW) (by rw [eL, hPe]; omega) bW
        rw [eL] at this
        rw [hPe] at this ⊢
        exact this
      · -- the operation at i
        obtain ⟨m, hm⟩ : ∃ m, n - i = m + 1 := ⟨n - i - 1, by omega⟩
        rw [hm, clnF, if_neg (by omega)] at hP
        have hpc := pieceP_le (C := L) (n := n) (i := i) c
        have more : ∀ j, i ≤ j → j ≤ n → i < j → clnF L n g m j = clnF L n g (n - j) j := fun j h1 h2 h3 => by
          rw [← clnF_more L n g (n - j) j (m - (n - j)) (by omega), show n - j + (m - (n - j)) = m by omega]
        have no : metB L n i g = false → Aw G mX7_cleaned (d + 1) 0 h (kI (fun r h' => r = nI (clnP L n g).length ∧ Mod (fun y => y = Mc + 5 ∨ y = Mc + 6) h h' ∧ sub_ (h'.ai (Mc + 5)) 0 (clnP L n g).length = clnP L n g) nE) 149 [vR Mc, vR (Mc + 5), vI (nI n), vR x, vI (nI acc.length), vI (nI (hdG g)), vI (nI i), vI 0, vU, vU] [] (h.wi (Mc + 6) W) := fun hmet => by
          rw [hmet, if_neg (by decide)] at hP
          have cpy : ∀ s, s = pieceP L n i → Aw G mX7_cleaned (d + 1) 0 h (kI (fun r h' => r = nI (clnP L n g).length ∧ Mod (fun y => y = Mc + 5 ∨ y = Mc + 6) h h' ∧ sub_ (h'.ai (Mc + 5)) 0 (clnP L n g).length = clnP L n g) nE) 192 [vR Mc, vR (Mc + 5), vI (nI n), vR x, vI (nI acc.length), vI (nI (hdG g)), vI (nI i), vU, vI (nI s), vI (nI 0)] [] (h.wi (Mc + 6) W) := fun s hs => by
            subst hs
            have key := loop_uc (n := pieceP L n i) (P := fun k (T : List Int32) => Aw G mX7_cleaned (d + 1) 0 h (kI (fun r h' => r = nI (clnP L n g).length ∧ Mod (fun y => y = Mc + 5 ∨ y = Mc + 6) h h' ∧ sub_ (h'.ai (Mc + 5)) 0 (clnP L n g).length = clnP L n g) nE) 192 [vR Mc, vR (Mc + 5), vI (nI n), vR x, vI (nI acc.length), vI (nI (hdG g)), vI (nI i), vU, vI (nI (pieceP L n i)), vI (nI k)] [] (h.wi (Mc + 6) T))
              (fun k T => T = putB W acc.length k (fun j => L.getD (i + j) 0)) (fun k T hk hT ih2 => ?_) 0 W (Nat.zero_le _) (putB_0 _ _ _).symm
            · exact key
            · subst hT
              have eLW2 : (h.wi (Mc + 6) (putB W acc.length k (fun j => L.getD (i + j) 0))).ai (Mc + 5) = L := by rw [AH.ai_wiN n56]; exact eL
              refine sX7_cleaned_192 _ Mc (Mc + 5) (nI n) x (nI acc.length) (nI (hdG g)) (nI i) (nI (pieceP L n i)) (nI k) (pk_le (pieceP L n i) k (fun c3 => ?_) (fun c3 => ⟨H.1, fun r3 e3 => ?_⟩))
              · have ek : k = pieceP L n i := by omega
                rw [nI_add, nI_add]
                have lacc : (acc ++ sub_ L i (pieceP L n i)).length = acc.length + pieceP L n i := by rw [List.length_append, sub_len]
                have := ih (putB W acc.length k (fun j => L.getD (i + j) 0), acc ++ sub_ L i (pieceP L n i), i + pieceP L n i) ⟨by dsimp only; rw [putB_len]; exact lW, ?_, hpc.2, by dsimp only; rw [lacc]; omega, ?_, ?_⟩ (by dsimp only; omega)
                · dsimp only at this
                  rw [lacc] at this
                  exact this
                · intro z
                  dsimp only
                  by_cases hz : z < W.length
                  · rw [putB_getD _ _ _ _ hz]
                    split
                    · exact hB5 _
                    · exact bW z
                  · rw [getD_ge (by rw [putB_len]; omega)]; decide
                · dsimp only
                  rw [lacc, ek]
                  exact sub_put sW (by omega) rfl
                · dsimp only
                  rw [hP, List.append_assoc, more _ (by omega) hpc.2 (by omega)]
              · have e3' : r3 = Mc + 6 := e3.trans H.2.1.2.2.2.2.2.2.1
                subst e3'
                rw [eLW2, AH.ai_wiS, putB_len, lW, l5, AH.wi_wi, nI_add, nI_add, pk_cl (i + k) rfl (by omega), pk_cl (acc.length + k) rfl (by omega), hB5]
                refine ⟨k5, pk_in (i + k) 1600 (by omega), H.2.2.1.2.2.2.2.2.1, pk_in (acc.length + k) 1600 (by omega), fun h8 e8 => ?_⟩
                rw [e8, nI_1]
                exact ih2 c3 _ (putB_succ (by omega) rfl)
          refine sX7_cleaned_149 _ Mc (Mc + 5) (nI n) x (nI acc.length) (nI (hdG g)) (nI i) 0 ⟨fun _ => (Mc_length_spec (h := h.wi (Mc + 6) W) (d := d) (e := n) (by omega) k5 c (by rw [eLW, l5]; exact hn) (by rw [eLW, l5]; decide)).nI (fun x2 h3 Q => ?_), fun z => absurd rfl z⟩
          obtain ⟨rfl, rfl⟩ := Q
          rw [eLW]
          have hle := opLen_le (L := L) (i := i) (e := n)
          refine ⟨fun z => absurd rfl z, fun _ => pk_eq' (opLen L i n) 0 (fun z => cpy _ ?_) (fun z => ?_) rfl rfl (by omega) (by omega)⟩
          · unfold pieceP; rw [if_neg z]
          · rw [pk_sub (by omega)]
            exact cpy _ (by unfold pieceP; rw [if_pos z])
        have no102 : metB L n i g = false → Aw G mX7_cleaned (d + 1) 0 h (kI (fun r h' => r = nI (clnP L n g).length ∧ Mod (fun y => y = Mc + 5 ∨ y = Mc + 6) h h' ∧ sub_ (h'.ai (Mc + 5)) 0 (clnP L n g).length = clnP L n g) nE) 102 [vR Mc, vR (Mc + 5), vI (nI n), vR x, vI (nI acc.length), vI (nI (hdG g)), vI (nI i), vI 0, vI 0, vU] [] (h.wi (Mc + 6) W) := fun hmet =>
          sX7_cleaned_102 _ Mc (Mc + 5) (nI n) x (nI acc.length) (nI (hdG g)) (nI i) 0 0 ⟨exW.1.1, fun _ => no hmet, fun _ => ⟨fun _ => no hmet, fun z => absurd rfl z⟩⟩
        have yes102 : i + hdG g + g.length ≤ n → (if g.length < 76 then ub L i = g.length else ub L i = 76 ∧ ub L (i + 1) = g.length) → Aw G mX7_cleaned (d + 1) 0 h (kI (fun r h' => r = nI (clnP L n g).length ∧ Mod (fun y => y = Mc + 5 ∨ y = Mc + 6) h h' ∧ sub_ (h'.ai (Mc + 5)) 0 (clnP L n g).length = clnP L n g) nE) 102 [vR Mc, vR (Mc + 5), vI (nI n), vR x, vI (nI acc.length), vI (nI (hdG g)), vI (nI i), vI 1, vI (nI 0), vU] [] (h.wi (Mc + 6) W) := fun c1 c2 => by
          have hm2 : metB L n i g = sameB L (i + hdG g) g := by
            unfold metB
            rw [decide_eq_true c1]
            by_cases q : g.length < 76
            · rw [if_pos q] at c2 ⊢
              rw [decide_eq_true c2]
              rfl
            · rw [if_neg q] at c2 ⊢
              rw [decide_eq_true c2.1, decide_eq_true c2.2]
              rfl
          refine loop_uc (n := g.length) (P := fun k (_ : Unit) => Aw G mX7_cleaned (d + 1) 0 h (kI (fun r h' => r = nI (clnP L n g).length ∧ Mod (fun y => y = Mc + 5 ∨ y = Mc + 6) h h' ∧ sub_ (h'.ai (Mc + 5)) 0 (clnP L n g).length = clnP L n g) nE) 102 [vR Mc, vR (Mc + 5), vI (nI n), vR x, vI (nI acc.length), vI (nI (hdG g)), vI (nI i), vI 1, vI (nI k), vU] [] (h.wi (Mc + 6) W))
            (fun k _ => ∀ j, j < k → L.getD (i + hdG g + j) 0 = g.getD j 0) (fun k _ hk hJ ih2 => ?_) 0 () (Nat.zero_le _) (fun j hj => absurd hj (by omega))
          refine sX7_cleaned_102 _ Mc (Mc + 5) (nI n) x (nI acc.length) (nI (hdG g)) (nI i) 1 (nI k) ⟨exW.1.1, ?_⟩
          rw [exW.2.1]
          refine pk_le g.length k (fun c3 => ?_) (fun c3 => ⟨fun c => absurd c (by decide), fun _ => ⟨k5, ?_⟩⟩)
          · have hmet : metB L n i g = true := by
              rw [hm2]
              unfold sameB
              refine decide_eq_true (ext_getD (z := 0) (sub_len _ _ _) (fun j hj => ?_))
              rw [sub_len] at hj
              rw [sub_getD hj]
              exact hJ j (by omega)
            rw [hmet, if_pos rfl] at hP
            refine sX7_cleaned_149 _ Mc (Mc + 5) (nI n) x (nI acc.length) (nI (hdG g)) (nI i) 1 ⟨fun c => absurd c (by decide), fun _ => ⟨exW.1.1, fun _ => ?_, fun c => absurd c (by decide)⟩⟩
            rw [exW.2.1, nI_add, nI_add]
            have := ih (W, acc, i + hdG g + g.length) ⟨lW, bW, c1, by dsimp only; omega, sW, by rw [hP, more _ (by omega) c1 (by omega)]⟩ (by dsimp only; omega)
            rw [show i + (hdG g + g.length) = i + hdG g + g.length by omega]
            exact this
          · rw [eLW, l5, nI_add, nI_add, pk_cl (i + hdG g + k) rfl (by omega)]
            refine ⟨pk_in (i + hdG g + k) 1600 (by omega), fun r6 e6 => ?_⟩
            have e6' : r6 = x + 1 := e6.trans exW.1.2.1
            subst e6'
            rw [exW.1.2.2.2, pk_cl k rfl (by omega), exW.2.2.2 k c3, nI_1]
            refine ⟨exW.1.2.2.1, pk_in k 520 (by omega), fun c4 => ?_, fun c4 => ih2 c3 () (fun j hj => ?_)⟩
            · have hmet : metB L n i g = false := by
                rw [hm2]
                unfold sameB
                refine decide_eq_false (fun z => c4 ?_)
                have this : (sub_ L (i + hdG g) g.length).getD k 0 = g.getD k 0 := by rw [z]
                rw [sub_getD c3] at this
                exact this
              refine sX7_cleaned_102 _ Mc (Mc + 5) (nI n) x (nI acc.length) (nI (hdG g)) (nI i) 0 (nI (k + 1)) ⟨exW.1.1, fun _ => no hmet, fun _ => ⟨fun _ => no hmet, fun z => absurd rfl z⟩⟩
            · by_cases z : j = k
              · rw [z]; exact c4
              · exact hJ j (by omega)
        have u0 := ub_lt L i
        have u1 := ub_lt L (i + 1)
        rw [exW.2.1, nI_add, nI_add, eLW, l5, pk_cl i rfl (by omega), nI_1, pk_cl (i + 1) rfl (by omega), and_ub, and_ub]
        refine pk_lt n (i + hdG g + g.length) (fun c1 => no102 ?_) (fun c1 => pk_eq' (hdG g) 1 (fun c2 => ⟨k5, pk_in i 1600 (by omega), ?_⟩) (fun c2 => ⟨k5, pk_in i 1600 (by omega), pk_eq' (ub L i) g.length (fun c3 => no102 ?_) (fun c3 => yes102 c1 ?_)⟩))
        · unfold metB
          rw [decide_eq_false (by omega)]
          rfl
        · have g76 : ¬ g.length < 76 := fun z => c2 (by unfold hdG; rw [if_pos z])
          rw [gb hB5, show (76 : Int32) = nI 76 from rfl, bI_ne _ u0 76 (by decide)]
          refine ⟨fun c3 => no102 ?_, fun c3 => ⟨pk_in (i + 1) 1600 (by omega), pk_eq' (ub L (i + 1)) g.length (fun c4 => no102 ?_) (fun c4 => yes102 c1 ?_)⟩⟩
          · unfold metB
            rw [if_neg g76, decide_eq_false c3]
            simp
          · unfold metB
            rw [if_neg g76, decide_eq_false c4]
            simp
          · rw [if_neg g76]; exact ⟨c3, c4⟩
        · have g76 : g.length < 76 := by
            unfold hdG at c2
            split at c2
            · assumption
            · omega
          unfold metB
          rw [if_pos g76, decide_eq_false c3]
          simp
        · have g76 : g.length < 76 := by
            unfold hdG at c2
            split at c2
            · assumption
            · omega
          rw [if_pos g76]; exact c3
  rw [ex.2.1]
  refine pk_le 76 g.length (fun c => ?_) (fun c => ?_)
  · have : hdG g = 2 := by unfold hdG; rw [if_neg (by omega)]
    rw [this] at start
    exact start
  · have : hdG g = 1 := by unfold hdG; rw [if_pos (by omega)]
    rw [this] at start
    exact start
end Code
