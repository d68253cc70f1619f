/-! the reference's list of coins: findCoin, valueOf -/
set_option maxRecDepth 100000
/-- a coin c = (block * 12 + transaction) * 256 + output of the kept blocks in the row Bk: its Parsed p, the identity of its transaction -/
def CoA (h : AH) (Bk c p : Nat) (id : List Int32) : Prop := c < 187392 ∧ h.kd ((h.ar Bk).getD (c / 3072) 0) = 28 ∧ h.r 28003 ((h.ar Bk).getD (c / 3072) 0) = p ∧ PrS h p ∧ sub_ (h.ai (p + 7)) (32 * (c / 256 % 12)) 32 = id
section MCoin
variable {G : Gx} {d : Nat} {h : AH} {M ia off x row n Bk : Nat} {cs pf : Nat → Nat} {idf : Nat → List Int32} {id : List Int32}
theorem MD_findCoin_spec (hd : 2 ≤ d) (kM : h.kd M = 24) (r46 : h.r 24046 M = Bk) (kB : h.kd Bk = 114) (lB : (h.ar Bk).length = 61) (kr : h.kd row = 100) (lr : n ≤ (h.ai row).length) (lr2 : (h.ai row).length < 2 ^ 31) (hc : ∀ k, k < n → (h.ai row).getD k 0 = nI (cs k) ∧ CoA h Bk (cs k) (pf (cs k)) (idf (cs k))) (ka : h.kd ia = 101) (hl : off + 32 ≤ (h.ai ia).length) (hl2 : (h.ai ia).length < 2 ^ 31) (ei : sub_ (h.ai ia) off 32 = id) (hx : x < 4294967296) :
    Cw G mX24_findCoin d 0 [vR M, vR ia, vI (nI off), vJ (lN x), vR row, vI (nI n)] h (kI (fun r h' => h' = h ∧ ((∃ k, k < n ∧ (idf (cs k), cs k % 256) = (id, x) ∧ (∀ j, j < k → (idf (cs j), cs j % 256) ≠ (id, x)) ∧ r = nI k) ∨ ((∀ k, k < n → (idf (cs k), cs k % 256) ≠ (id, x)) ∧ r = -1))) nE) := by
  obtain ⟨d, rfl⟩ : ∃ d', d = d' + 1 := ⟨d - 1, by omega⟩
  refine eX24_findCoin h M ia (nI off) (lN x) row (nI n) (fun _ => sX24_findCoin_0 h M ia (nI off) (lN x) row (nI n) ?_)
  refine loop_uc (n := n) (P := fun k (_ : Unit) => Aw G mX24_findCoin (d + 1) 0 h (kI (fun r h' => h' = h ∧ ((∃ k, k < n ∧ (idf (cs k), cs k % 256) = (id, x) ∧ (∀ j, j < k → (idf (cs j), cs j % 256) ≠ (id, x)) ∧ r = nI k) ∨ ((∀ k, k < n → (idf (cs k), cs k % 256) ≠ (id, x)) ∧ r = -1))) nE) 3 [vR M, vR ia, vI (nI off), vJ (lN x), vU, vR row, vI (nI n), vI (nI k), vU] [] h) (fun k _ => ∀ j, j < k → (idf (cs j), cs j % 256) ≠ (id, x)) (fun k _ hk hI ih => ?_) 0 () (Nat.zero_le _) (fun j hj => absurd hj (Nat.not_lt_zero _))
  refine sX24_findCoin_3 h M ia (nI off) (lN x) row (nI n) (nI k) (pk_le n k (fun z => ⟨rfl, Or.inr ⟨fun j hj => hI j (by omega), rfl⟩⟩) (fun z => ?_))
  obtain ⟨c1, c2, c3, c4, c5, c6⟩ := hc k z
  have nxt : (idf (cs k), cs k % 256) ≠ (id, x) → Aw G mX24_findCoin (d + 1) 0 h (kI (fun r h' => h' = h ∧ ((∃ k, k < n ∧ (idf (cs k), cs k % 256) = (id, x) ∧ (∀ j, j < k → (idf (cs j), cs j % 256) ≠ (id, x)) ∧ r = nI k) ∨ ((∀ k, k < n → (idf (cs k), cs k % 256) ≠ (id, x)) ∧ r = -1))) nE) 3 [vR M, vR ia, vI (nI off), vJ (lN x), vU, vR row, vI (nI n), vI (nI (k + 1)), vU] [] h := fun w => ih z () (fun j hj => by
    by_cases e : j = k
    · rw [e]; exact w
    · exact hI j (by omega))
  rw [pk_cl k rfl (by omega), c1, nI_1]
  refine ⟨kr, pk_in k _ (by omega), fun u4 e4 => ?_⟩
  subst e4
  have hm : cs k % 256 < 256 := Nat.mod_lt _ (by decide)
  have e255 : (nI (cs k) &&& 255).toInt64 = lN (cs k % 256) := by
    rw [and_255, u32_nI, show cs k % 4294967296 % 256 = cs k % 256 by omega, nI_l (by omega)]
  have eqx : lN (cs k % 256) = lN x ↔ cs k % 256 = x := lN_eq63 (by omega) (by omega)
  have cb : cs k / 3072 < 61 := by omega
  have et : cs k / 256 % 12 < 12 := Nat.mod_lt _ (by decide)
  rw [e255, eqx]
  refine ⟨fun q => nxt (fun w => q (congrArg Prod.snd w)), fun q => ⟨kM, fun r7 e7 => ?_⟩⟩
  rw [show r7 = Bk from e7.trans r46, lB, show (3072 : Int32) = nI 3072 from rfl, pk_div (by omega) (by decide) (by decide), pk_cl (cs k / 3072) rfl (by omega)]
  refine ⟨kB, pk_in (cs k / 3072) 61 cb, fun r10 e10 => ?_⟩
  rw [e10]
  refine ⟨c3, fun r12 e12 => ?_⟩
  rw [show r12 = pf (cs k) from e12.trans c4]
  refine ⟨c5.1, fun r14 e14 => ?_⟩
  rw [show r14 = pf (cs k) + 7 from e14.trans c5.2.1.2.2.2.2.2.2, show (256 : Int32) = nI 256 from rfl, pk_div (by omega) (by decide) (by decide), show (12 : Int32) = nI 12 from rfl, jrem_n (by omega) (by decide) (by decide), show (32 : Int32) = nI 32 from rfl, pk_mul]
  have l7 : (h.ai (pf (cs k) + 7)).length = 384 := c5.2.2.2.2.2.2.2.2.2
  refine (MD_alike_spec (i := 32 * (cs k / 256 % 12)) (k := off) (n := 32) (by omega) c5.2.2.1.2.2.2.2.2.2 ka (by rw [l7]; omega) hl (by rw [l7]; decide) hl2).nI (fun x15 h16 Q => ?_)
  obtain ⟨e15, e16⟩ := Q
  rw [c6, ei] at e15
  rw [e16, e15]
  by_cases w : idf (cs k) = id
  · rw [decide_eq_true w]
    exact ⟨fun y => absurd y (by decide), fun _ => ⟨rfl, Or.inl ⟨k, z, by rw [w, q], hI, rfl⟩⟩⟩
  · rw [decide_eq_false w]
    exact ⟨fun _ => nxt (fun y => w (congrArg Prod.fst y)), fun y => absurd rfl y⟩
/-- the value of a coin -/
theorem MD_valueOf_spec {c p a nn : Nat} {K B L : List Int32} {t : TxP} (hd : 4 ≤ d) (kM : h.kd M = 24) (r46 : h.r 24046 M = Bk) (kB : h.kd Bk = 114) (lB : (h.ar Bk).length = 61) (C : CoA h Bk c p id) (rp : h.r 26000 p = a) (ka : h.kd a = 101) (eL : h.ai a = L) (W : TxW L nn t) (T : PrT h p K B L (c / 256 % 12) t) (ho : c % 256 < t.2.2.2.length) (ho2 : t.2.2.2.length < 2 ^ 20) :
    Cw G mX24_valueOf d 0 [vR M, vI (nI c)] h (kJ (fun x h' => x = lN (leV L (t.2.2.2.getD (c % 256) p0).1 8) ∧ ∃ u v, h' = scH h M u v) nE) := by
  obtain ⟨d, rfl⟩ : ∃ d', d = d' + 1 := ⟨d - 1, by omega⟩
  obtain ⟨c2, c3, c4, c5, c6⟩ := C
  have cb : c / 3072 < 61 := by omega
  have et : c / 256 % 12 < 12 := Nat.mod_lt _ (by decide)
  have w1 := W.1
  obtain ⟨⟨o1, o2, o3⟩, _⟩ := W.2.2.2 (c % 256) ho
  refine eX24_valueOf h M (nI c) (fun _ => sX24_valueOf_0 h M (nI c) ⟨kM, fun r2 e2 => ?_⟩)
  rw [show r2 = Bk from e2.trans r46, lB, show (3072 : Int32) = nI 3072 from rfl, pk_div (by omega) (by decide) (by decide), pk_cl (c / 3072) rfl (by omega)]
  refine ⟨kB, pk_in (c / 3072) 61 cb, fun r5 e5 => ?_⟩
  rw [e5]
  refine ⟨c3, fun r7 e7 => ?_⟩
  rw [show r7 = p from e7.trans c4]
  refine ⟨c5.1, fun r9 e9 => ?_⟩
  rw [show r9 = a from e9.trans rp, show (256 : Int32) = nI 256 from rfl, pk_div (by omega) (by decide) (by decide), show (12 : Int32) = nI 12 from rfl, jrem_n (by omega) (by decide) (by decide), and_255, u32_nI, show c % 4294967296 % 256 = c % 256 by omega]
  refine (MD_output_spec (by omega) kM c5 rp ka eL W T et ho ho2).nI (fun x10 h11 Q => ?_)
  obtain ⟨e10, u, v, e11⟩ := Q
  rw [e10, e11]
  refine (MD_number_spec (h := scH h M u v) (k := 8) (by decide) (by omega) ka (by show _ ≤ (h.ai a).length; rw [eL]; omega) (by show (h.ai a).length < _; rw [eL]; omega)).nJ (fun x12 h13 Q => ?_)
  obtain ⟨e12, e13⟩ := Q
  refine ⟨?_, u, v, e13⟩
  rw [e12]
  show lN (leV (h.ai a) _ 8) = _
  rw [eL]
end MCoin
