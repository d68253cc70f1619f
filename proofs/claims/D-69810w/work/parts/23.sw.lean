/-! switches with holes; a call of the enum's ordinal; facts of new objects; the words of throwables -/
set_option maxRecDepth 100000
section Sw
variable {G : Gx} {X Y : Mx} {d t : Nat} {h0 h h1 : AH} {Φ : Out → AH → Prop} {pc n b q key k tgt : Nat} {lv st : List AV} {x : Int32} {ai : List Int32} {al : List Int64} {ar : List Nat}
/-- x is none of the values with a way of their own -/
theorem r_tableD {dflt lo hi : Int} {offs : Array Int} {len : Nat} (dg : decode X.cc pc = .ok (.tableswitch dflt lo hi offs, len)) (hb : (-2147483648 ≤ lo ∧ hi ≤ 2147483647 ∧ hi - lo + 1 = offs.size)) (hx : ∀ i : Nat, i < offs.size → offs[i]? ≠ some dflt → ¬ x = Int32.ofInt (lo + i)) (ht : (pc : Int) + dflt = (tgt : Int)) (kk : Aw G X d t h0 Φ tgt lv st h) : Aw G X d t h0 Φ pc lv (vI x :: st) h := by
  by_cases h1 : x.toInt < lo
  · exact r_tableOut dg (Or.inl h1) ht kk
  by_cases h2 : hi < x.toInt
  · exact r_tableOut dg (Or.inr h2) ht kk
  have hlt : (x.toInt - lo).toNat < offs.size := by omega
  refine r_tableIn (off := dflt) dg h1 h2 ?_ ht kk
  by_cases hd : offs[(x.toInt - lo).toNat]? = some dflt
  · exact hd
  · refine absurd ?_ (hx _ hlt hd)
    have e : lo + ((x.toInt - lo).toNat : Int) = x.toInt := by omega
    rw [e, Int32.ofInt_toInt]
theorem r_callU_I {K : Int32 → AH → Prop} {E : Nat → AH → Prop} {xn : MethodName} {owner : String} (hkd : h.kd b = 117) (q1 : Cond.methodLink X.y.cls n xn ∈ lw_all) (q2 : Cond.instanceMethod Y.y ∈ lw_all) (q3 : Cond.selects "CoinJudge$State" xn Y.y ∈ lw_all) (q4 : Cond.sameMethod xn.cls owner xn.name xn.desc ∈ lw_all) (q5 : Cond.declares ⟨owner, xn.name, xn.desc⟩ ∈ lw_tbl) (dg : decode X.cc pc = .ok (.invokevirtual n, 3)) (hcd : cdOk Y) (hs : cOk Y [vR b] st = true) (hy : owner ≠ "java/lang/invoke/MethodHandle" ∧ owner ≠ "java/lang/invoke/VarHandle") (hp : pN xn 0 = true) (hfp : ∀ k, k ∈ Y.fp → k ∈ X.fp) (kk : Cw G Y d 0 [vR b] h (kI K E)) (hK : ∀ x h1, Ext Y.fp 0 h h1 → WF G h1 → K x h1 → Aw G X (d + 1) t h0 Φ (pc + 3) lv (vI x :: st) h1) (hE : ∀ x h1, Ext Y.fp 0 h h1 → WF G h1 → E x h1 → Tw G X (d + 1) t h0 Φ pc lv st x h1) : Aw G X (d + 1) t h0 Φ pc lv (vR b :: st) h := by
  obtain ⟨s1, s2, s3, s4⟩ := cOk.spec hs
  refine Aw.call dg hcd s1 hfp (Or.inr (Or.inr rfl)) s2 s3 (f_VU hkd q1 q2 q3 q4 q5 hcd hy hp dg) (kk.mono fun o h1 ex w hk => ?_)
  rcases o with (_ | (x | x | x | x)) | x
  all_goals first | exact hE x h1 ex w hk | exact hK x h1 ex w hk | exact False.elim hk
theorem fr_newS (e : h1 = h.new k n ai al ar) (hq : q = h.z) : h1.r key q = 0 := by subst hq; rw [e]; exact if_pos rfl
section Nm
variable {G : Gx} {h h1 : AH} {k key a x k2 y b : Nat} {v : Nat} {vi u : Int32} {vl ul : Int64} {L : List Int32} {L2 : List Int64} {L3 : List Nat}
theorem kd_wi (e : h1 = h.wi x L) (hk : h.kd a = k) : h1.kd a = k := by rw [e]; exact hk
theorem fr_wi (e : h1 = h.wi x L) (p : h.r key a = v) : h1.r key a = v := by rw [e]; exact p
theorem fi_wi (e : h1 = h.wi x L) (p : h.i key a = vi) : h1.i key a = vi := by rw [e]; exact p
theorem fl_wi (e : h1 = h.wi x L) (p : h.l key a = vl) : h1.l key a = vl := by rw [e]; exact p
theorem kd_wl (e : h1 = h.wl x L2) (hk : h.kd a = k) : h1.kd a = k := by rw [e]; exact hk
theorem fr_wl (e : h1 = h.wl x L2) (p : h.r key a = v) : h1.r key a = v := by rw [e]; exact p
theorem fi_wl (e : h1 = h.wl x L2) (p : h.i key a = vi) : h1.i key a = vi := by rw [e]; exact p
theorem fl_wl (e : h1 = h.wl x L2) (p : h.l key a = vl) : h1.l key a = vl := by rw [e]; exact p
theorem kd_wr (e : h1 = h.wr x L3) (hk : h.kd a = k) : h1.kd a = k := by rw [e]; exact hk
theorem fr_wr (e : h1 = h.wr x L3) (p : h.r key a = v) : h1.r key a = v := by rw [e]; exact p
theorem fi_wr (e : h1 = h.wr x L3) (p : h.i key a = vi) : h1.i key a = vi := by rw [e]; exact p
theorem fl_wr (e : h1 = h.wr x L3) (p : h.l key a = vl) : h1.l key a = vl := by rw [e]; exact p
theorem kd_pr (e : h1 = h.pr k2 x y) (hk : h.kd a = k) : h1.kd a = k := by rw [e]; exact hk
theorem fr_pr (e : h1 = h.pr k2 x y) (hn : key ≠ k2) (p : h.r key a = v) : h1.r key a = v := by rw [e]; exact (up2_ne (Or.inl hn)).trans p
theorem fi_pr (e : h1 = h.pr k2 x y) (p : h.i key a = vi) : h1.i key a = vi := by rw [e]; exact p
theorem fl_pr (e : h1 = h.pr k2 x y) (p : h.l key a = vl) : h1.l key a = vl := by rw [e]; exact p
theorem kd_pi (e : h1 = h.pi k2 x u) (hk : h.kd a = k) : h1.kd a = k := by rw [e]; exact hk
theorem fr_pi (e : h1 = h.pi k2 x u) (p : h.r key a = v) : h1.r key a = v := by rw [e]; exact p
theorem fi_pi (e : h1 = h.pi k2 x u) (hn : key ≠ k2) (p : h.i key a = vi) : h1.i key a = vi := by rw [e]; exact (up2_ne (Or.inl hn)).trans p
theorem fl_pi (e : h1 = h.pi k2 x u) (p : h.l key a = vl) : h1.l key a = vl := by rw [e]; exact p
theorem kd_pl (e : h1 = h.pl k2 x ul) (hk : h.kd a = k) : h1.kd a = k := by rw [e]; exact hk
theorem fr_pl (e : h1 = h.pl k2 x ul) (p : h.r key a = v) : h1.r key a = v := by rw [e]; exact p
theorem fi_pl (e : h1 = h.pl k2 x ul) (p : h.i key a = vi) : h1.i key a = vi := by rw [e]; exact p
theorem fl_pl (e : h1 = h.pl k2 x ul) (hn : key ≠ k2) (p : h.l key a = vl) : h1.l key a = vl := by rw [e]; exact (up2_ne (Or.inl hn)).trans p
theorem kd_exH (e : h1 = exH G k2 x h) (hk : h.kd a = k) : h1.kd a = k := by rw [e]; exact hk
theorem fr_self (hk : h.kd a = k) : h.r key a = h.r key a := rfl
theorem fi_self (hk : h.kd a = k) : h.i key a = h.i key a := rfl
theorem fl_self (hk : h.kd a = k) : h.l key a = h.l key a := rfl
end Nm
theorem fa {a : Cond} {l : List Cond} (x : hand a) (y : ∀ w ∈ l, hand w) : ∀ w ∈ a :: l, hand w := fun w hw => by
  rcases List.mem_cons.mp hw with e | e
  · rw [e]; exact x
  · exact y w e
theorem fn : ∀ w ∈ ([] : List Cond), hand w := fun _ h => by cases h
theorem ha {a : Cond} (x : a ∈ lw_all) : hand a := Or.inl x
theorem hb {a : Cond} (x : a ∈ lw_tbl) (y : (nwOk a && a.onTables) = true) : hand a := Or.inr (Or.inl ⟨x, y⟩)
end Sw
theorem ex_17 : ∀ w ∈ exAtoms "CoinJudge$Broken" ["java/lang/RuntimeException", "java/lang/Exception"] "CoinJudge$Broken", hand w := fa (ha q168) (fa (ha q756) (fa (ha q765) (fa (ha q773) (fa (ha q776) (fa (ha q778) (fa (ha q757) (fa (ha q758) (fa (ha q207) (fa (ha q208) (fa (ha q759) (fa (ha q764) (fa (ha q774) (fa (ha q791) (fa (ha q746) (fa (ha q792) (fa (ha q748) (fa (ha q793) (fa (ha q750) (fa (ha q760) (fa (Or.inr (Or.inr (Or.inl rfl))) (fa (ha q762) (fa (Or.inr (Or.inr (Or.inr rfl))) (fa (ha q752) (fa (ha q1046) (fa (ha q1047) (fa (ha q1048) (fa (ha q783) (fa (hb q737 rfl) (fa (ha q783) (fa (ha q784) (fa (ha q785) (fa (ha q786) (fa (hb q739 rfl) (fa (ha q786) (fa (ha q787) (fa (ha q788) (fa (ha q757) (fa (hb q741 rfl) (fa (ha q1039) (fa (ha q767) (fa (ha q755) (fa (ha q754) fn))))))))))))))))))))))))))))))))))))))))))
theorem ex_21 : ∀ w ∈ exAtoms "java/lang/RuntimeException" ["java/lang/Exception"] "CoinJudge$Refused", hand w := fa (ha q168) (fa (ha q756) (fa (ha q765) (fa (ha q773) (fa (ha q776) (fa (ha q778) (fa (ha q757) (fa (ha q758) (fa (ha q207) (fa (ha q208) (fa (ha q759) (fa (ha q764) (fa (ha q774) (fa (ha q791) (fa (ha q746) (fa (ha q792) (fa (ha q748) (fa (ha q793) (fa (ha q750) (fa (ha q760) (fa (Or.inr (Or.inr (Or.inl rfl))) (fa (ha q762) (fa (Or.inr (Or.inr (Or.inr rfl))) (fa (ha q752) (fa (ha q783) (fa (ha q784) (fa (ha q785) (fa (ha q786) (fa (hb q739 rfl) (fa (ha q786) (fa (ha q787) (fa (ha q788) (fa (ha q757) (fa (hb q741 rfl) (fa (ha q1232) (fa (ha q768) (fa (ha q755) (fa (ha q754) fn)))))))))))))))))))))))))))))))))))))
theorem ex_30 : ∀ w ∈ exAtoms "java/lang/IndexOutOfBoundsException" ["java/lang/RuntimeException", "java/lang/Exception"] "java/lang/IndexOutOfBoundsException", hand w := fa (ha q168) (fa (ha q756) (fa (ha q765) (fa (ha q773) (fa (ha q776) (fa (ha q778) (fa (ha q757) (fa (ha q758) (fa (ha q207) (fa (ha q208) (fa (ha q759) (fa (ha q764) (fa (ha q774) (fa (ha q791) (fa (ha q746) (fa (ha q792) (fa (ha q748) (fa (ha q793) (fa (ha q750) (fa (ha q760) (fa (Or.inr (Or.inr (Or.inl rfl))) (fa (ha q762) (fa (Or.inr (Or.inr (Or.inr rfl))) (fa (ha q752) (fa (ha q780) (fa (ha q781) (fa (ha q782) (fa (ha q783) (fa (hb q737 rfl) (fa (ha q783) (fa (ha q784) (fa (ha q785) (fa (ha q786) (fa (hb q739 rfl) (fa (ha q786) (fa (ha q787) (fa (ha q788) (fa (ha q757) (fa (hb q741 rfl) (fa (ha q743) (fa (ha q744) (fa (ha q755) (fa (ha q754) fn))))))))))))))))))))))))))))))))))))))))))
theorem ex_31 : ∀ w ∈ exAtoms "java/lang/IllegalArgumentException" ["java/lang/RuntimeException", "java/lang/Exception"] "java/lang/IllegalArgumentException", hand w := fa (ha q168) (fa (ha q756) (fa (ha q765) (fa (ha q773) (fa (ha q776) (fa (ha q778) (fa (ha q757) (fa (ha q758) (fa (ha q207) (fa (ha q208) (fa (ha q759) (fa (ha q764) (fa (ha q774) (fa (ha q791) (fa (ha q746) (fa (ha q792) (fa (ha q748) (fa (ha q793) (fa (ha q750) (fa (ha q760) (fa (Or.inr (Or.inr (Or.inl rfl))) (fa (ha q762) (fa (Or.inr (Or.inr (Or.inr rfl))) (fa (ha q752) (fa (ha q1853) (fa (ha q1854) (fa (ha q1855) (fa (ha q783) (fa (hb q737 rfl) (fa (ha q783) (fa (ha q784) (fa (ha q785) (fa (ha q786) (fa (hb q739 rfl) (fa (ha q786) (fa (ha q787) (fa (ha q788) (fa (ha q757) (fa (hb q741 rfl) (fa (ha q1846) (fa (ha q770) (fa (ha q755) (fa (ha q754) fn))))))))))))))))))))))))))))))))))))))))))
theorem ex_32 : ∀ w ∈ exAtoms "java/lang/IllegalStateException" ["java/lang/RuntimeException", "java/lang/Exception"] "java/lang/IllegalStateException", hand w := fa (ha q168) (fa (ha q756) (fa (ha q765) (fa (ha q773) (fa (ha q776) (fa (ha q778) (fa (ha q757) (fa (ha q758) (fa (ha q207) (fa (ha q208) (fa (ha q759) (fa (ha q764) (fa (ha q774) (fa (ha q791) (fa (ha q746) (fa (ha q792) (fa (ha q748) (fa (ha q793) (fa (ha q750) (fa (ha q760) (fa (Or.inr (Or.inr (Or.inl rfl))) (fa (ha q762) (fa (Or.inr (Or.inr (Or.inr rfl))) (fa (ha q752) (fa (ha q1929) (fa (ha q1930) (fa (ha q1931) (fa (ha q783) (fa (hb q737 rfl) (fa (ha q783) (fa (ha q784) (fa (ha q785) (fa (ha q786) (fa (hb q739 rfl) (fa (ha q786) (fa (ha q787) (fa (ha q788) (fa (ha q757) (fa (hb q741 rfl) (fa (ha q1922) (fa (ha q771) (fa (ha q755) (fa (ha q754) fn))))))))))))))))))))))))))))))))))))))))))
theorem ex_33 : ∀ w ∈ exAtoms "java/lang/UnsupportedOperationException" ["java/lang/RuntimeException", "java/lang/Exception"] "java/lang/UnsupportedOperationException", hand w := fa (ha q168) (fa (ha q756) (fa (ha q765) (fa (ha q773) (fa (ha q776) (fa (ha q778) (fa (ha q757) (fa (ha q758) (fa (ha q207) (fa (ha q208) (fa (ha q759) (fa (ha q764) (fa (ha q774) (fa (ha q791) (fa (ha q746) (fa (ha q792) (fa (ha q748) (fa (ha q793) (fa (ha q750) (fa (ha q760) (fa (Or.inr (Or.inr (Or.inl rfl))) (fa (ha q762) (fa (Or.inr (Or.inr (Or.inr rfl))) (fa (ha q752) (fa (ha q2061) (fa (ha q2062) (fa (ha q2063) (fa (ha q783) (fa (hb q737 rfl) (fa (ha q783) (fa (ha q784) (fa (ha q785) (fa (ha q786) (fa (hb q739 rfl) (fa (ha q786) (fa (ha q787) (fa (ha q788) (fa (ha q757) (fa (hb q741 rfl) (fa (ha q2054) (fa (ha q772) (fa (ha q755) (fa (ha q754) fn))))))))))))))))))))))))))))))))))))))))))
