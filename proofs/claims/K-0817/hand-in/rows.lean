section
/-- what a cast to short can give -/
def tf_S (x : Int32) : Prop := ∃ z : Int32, x = z.toInt16.toInt32
/-- the two writers hold the same: last id, depth, count, stack and bytes; the depth within 3, the count within 16, and the stack's cells are shorts -/
def i_Rel (_ : Nat) (u : SX) (v : SY) : Prop := ∃ (l : Int32) (d w : Nat) (s o : Nat → Int32), u = (l, nI d, nI w, s, o) ∧ v = (l, nI d, nI w, s, o) ∧ d ≤ 3 ∧ w ≤ 16 ∧ ∀ j, tf_S (s j)
theorem tf_mk {k d w : Nat} {l : Int32} {s o : Nat → Int32} (hd : d ≤ 3) (hw : w ≤ 16) (hs : ∀ j, tf_S (s j)) : i_Rel k (l, nI d, nI w, s, o) (l, nI d, nI w, s, o) :=
  ⟨l, d, w, s, o, rfl, rfl, hd, hw, hs⟩
theorem pk_ns (z : Int32) : narrow .short (.int z.toInt16.toInt32) = .int z.toInt16.toInt32 := congrArg Value.int (by simp)
theorem pk_fs (r : Int32) : fits .short (.int r.toInt16.toInt32) = true := by
  have ⟨a, b⟩ := lg_i2s_range r
  have h1 : (-32768 : Int32).toInt = -32768 := by decide
  have h2 : (32767 : Int32).toInt = 32767 := by decide
  simp only [fits, Bool.and_eq_true, decide_eq_true_eq, Int32.le_iff_toInt_le, h1, h2]
  omega
theorem tf_ns {x : Int32} (h : tf_S x) : narrow .short (.int x) = .int x := by
  obtain ⟨z, rfl⟩ := h
  exact pk_ns z
theorem tf_fs {x : Int32} (h : tf_S x) : fits .short (.int x) = true := by
  obtain ⟨z, rfl⟩ := h
  exact pk_fs z
/-- a mask of eight bits ahead of a cast to byte changes nothing -/
theorem tf_m (x : Int32) : (x &&& 255).toInt8 = x.toInt8 := by
  apply Int8.toBitVec_inj.mp
  rw [Int32.toBitVec_toInt8, Int32.toBitVec_toInt8, Int32.toBitVec_and]
  apply BitVec.eq_of_getLsbD_eq
  intro i hi
  have hm : ∀ i < 8, (255 : Int32).toBitVec.getLsbD i = true := by decide
  rw [BitVec.getLsbD_signExtend, BitVec.getLsbD_signExtend, BitVec.getLsbD_and, hm i hi, Bool.and_true, if_pos (by omega), if_pos (by omega)]
/-- the two ways to join a delta and a type into a byte -/
theorem tf_b : ∀ a, a < 16 → ∀ b, b < 16 → ((nI a <<< ((4 : Int32) &&& 31)) ||| nI b).toInt8.toInt32 = ((nI a * 16) + nI b).toInt8.toInt32 := by decide +kernel
/-- an int from 1 to 15 by its number -/
theorem tf_n {x : Int32} (h1 : ¬ x < 1) (h2 : x ≤ 15) : ∃ a : Nat, a < 16 ∧ x = nI a := by
  have e1 : (1 : Int32).toInt = 1 := by decide
  have h0 : ¬ x < 0 := by
    rw [Int32.lt_iff_toInt_lt, e1] at h1
    rw [Int32.lt_iff_toInt_lt, Int32.toInt_zero]
    omega
  obtain ⟨j, hj, e⟩ := nI_of2 (M := 15) (n := 15) (by decide) h0 h2
  exact ⟨j, by omega, e⟩
theorem tf_j {x y : Int32} (hx : ¬ x < 1) (hx' : ¬ 15 < x) (hy : ¬ y < 1) (hy' : y ≤ 15) : ((x <<< ((4 : Int32) &&& 31)) ||| y).toInt8.toInt32 = ((x * 16) + y).toInt8.toInt32 := by
  obtain ⟨a, ha, ea⟩ := tf_n hx (Int32.not_lt.mp hx')
  obtain ⟨b, hb, eb⟩ := tf_n hy hy'
  rw [ea, eb]
  exact tf_b a ha b hb
theorem tf_up {s : Nat → Int32} (hs : ∀ j, tf_S (s j)) (k : Nat) (x : Int32) : ∀ j, tf_S (upd s k (vp_nar .short x) j) := by
  intro j
  by_cases h : j = k
  · exact ⟨x, if_pos h⟩
  · obtain ⟨z, hz⟩ := hs j
    exact ⟨z, (if_neg h).trans hz⟩
theorem tf_z : tf_S 0 := ⟨0, by decide⟩
theorem tf_0 : ∀ j : Nat, tf_S ((fun _ => (0 : Int32)) j) := fun _ => tf_z
end
section
theorem i_up {k : Nat} {u : SX} {v : SY} (h : i_Rel k u v) : i_Rel (k + 3) u v := h
theorem i_vc0 : wpX_init (fun u => wpY_init (fun v => i_Rel 0 u v)) :=
  ⟨0, 0, 0, fun _ => 0, fun _ => 0, by rw [nI_0], by rw [nI_0], by decide, by decide, tf_0⟩
/-- the long form of a header: one outcome for both sides -/
theorem tf_82 {k : Nat} {l : Int32} {d w : Nat} {s o : Nat → Int32} (hd : d ≤ 3) (hw : w ≤ 16) (hs : ∀ j, tf_S (s j)) (p x : Int32) (hx : tf_S x) :
    ∃ (r : Int32) (t : SX), i_Rel k t t ∧ (∀ post : Int32 → SX → Prop, post r t → wX_field_82 post p x l (nI d) (nI w) s o) ∧ (∀ post : Int32 → SY → Prop, post r t → wY_field_82 post p x l (nI d) (nI w) s o) := by
  have e1 : nI w + 1 = nI (w + 1) := nI_1 w
  have e2 : nI w + 2 = nI (w + 2) := nI_add w 2
  have e3 : nI w + 3 = nI (w + 3) := nI_add w 3
  have g0 : (nI w).toNatClampNeg = w := nI_clamp (by omega)
  have g1 : (nI (w + 1)).toNatClampNeg = w + 1 := nI_clamp (by omega)
  have g2 : (nI (w + 2)).toNatClampNeg = w + 2 := nI_clamp (by omega)
  by_cases h : w + 3 ≤ 16
  · have a : nI w + 3 ≤ 16 := by rw [e3]; exact nI_le (b := 16) h (by decide)
    have c0 : vp_in (nI w) 16 := vp_in_nI (by omega) (by decide)
    have c1 : vp_in (nI (w + 1)) 16 := vp_in_nI (by omega) (by decide)
    have c2 : vp_in (nI (w + 2)) 16 := vp_in_nI (by omega) (by decide)
    refine ⟨3, (x, nI d, nI (w + 3), s, upd (upd (upd o w (vp_nar .byte p.toInt8.toInt32)) (w + 1) (vp_nar .byte x.toInt8.toInt32)) (w + 2) (vp_nar .byte (x >>> ((8 : Int32) &&& 31)).toInt8.toInt32)), tf_mk hd h hs, fun post hp => ?_, fun post hp => ?_⟩
    · refine br_t a ⟨c0, nm_r (e' := upd o w (vp_nar .byte p.toInt8.toInt32)) (by rw [g0]) ⟨by rw [e1]; exact c1, nm_r (e' := upd (upd o w (vp_nar .byte p.toInt8.toInt32)) (w + 1) (vp_nar .byte x.toInt8.toInt32)) (by rw [e1, g1, tf_m]) ⟨by rw [e2]; exact c2, ?_⟩⟩⟩
      refine nm_r (e' := upd (upd (upd o w (vp_nar .byte p.toInt8.toInt32)) (w + 1) (vp_nar .byte x.toInt8.toInt32)) (w + 2) (vp_nar .byte (x >>> ((8 : Int32) &&& 31)).toInt8.toInt32)) (by rw [e2, g2, tf_m]) ?_
      exact nm_r e3 ⟨tf_ns hx, tf_fs hx, hp⟩
    · refine br_t a (nm_r e1 ⟨c0, nm_r (e' := upd o w (vp_nar .byte p.toInt8.toInt32)) (by rw [g0]) (nm_r (nI_1 (w + 1)) ⟨c1, nm_r (e' := upd (upd o w (vp_nar .byte p.toInt8.toInt32)) (w + 1) (vp_nar .byte x.toInt8.toInt32)) (by rw [g1]) (nm_r (nI_1 (w + 2)) ⟨c2, ?_⟩)⟩)⟩)
      refine nm_r (e' := upd (upd (upd o w (vp_nar .byte p.toInt8.toInt32)) (w + 1) (vp_nar .byte x.toInt8.toInt32)) (w + 2) (vp_nar .byte (x >>> ((8 : Int32) &&& 31)).toInt8.toInt32)) (by rw [g2]) ?_
      exact ⟨tf_ns hx, tf_fs hx, hp⟩
  · have a : ¬ nI w + 3 ≤ 16 := by rw [e3]; exact nI_ge (a := 16) (by omega) (by omega)
    exact ⟨-2, (l, nI d, nI w, s, o), tf_mk hd hw hs, fun post hp => br_f a hp, fun post hp => br_f a hp⟩
theorem i_vc_field {k : Nat} {u : SX} {v : SY} (I : i_Rel k u v) (hk : k + 3 ≤ 1536) (v1 : Int32) (v2 : Int32) : wpX_field (fun r u' => wpY_field (fun r' v' => r' = r ∧ i_Rel (k + 3) u' v') v v1 v2) u v1 v2 := by
  obtain ⟨l, d, w, s, o, rfl, rfl, hd, hw, hs⟩ := I
  by_cases h1 : v2 < 1
  · exact br_t h1 (br_t h1 ⟨rfl, tf_mk hd hw hs⟩)
  by_cases h2 : v2 ≤ 15
  · obtain ⟨r, t, hR, hX, hY⟩ := tf_82 (k := k + 3) (l := l) (o := o) hd hw hs v2 v1.toInt16.toInt32 ⟨v1, rfl⟩
    by_cases h3 : v1.toInt16.toInt32 - l < 1
    · exact br_f h1 (br_t h2 (nm_e (br_t h3 (hX _ (br_f h1 (br_t h2 (nm_e (br_t h3 (hY _ ⟨rfl, hR⟩)))))))))
    by_cases h4 : 15 < v1.toInt16.toInt32 - l
    · exact br_f h1 (br_t h2 (nm_e (br_f h3 (br_t h4 (hX _ (br_f h1 (br_t h2 (nm_e (br_f h3 (br_t h4 (hY _ ⟨rfl, hR⟩)))))))))))
    have g0 : (nI w).toNatClampNeg = w := nI_clamp (by omega)
    have e1 : nI w + 1 = nI (w + 1) := nI_1 w
    have j := tf_j h3 h4 h1 h2
    by_cases h5 : w < 16
    · have a : nI w < 16 := nI_lt (b := 16) h5 (by decide)
      have b : nI w + 1 ≤ 16 := by rw [e1]; exact nI_le (b := 16) h5 (by decide)
      have c : vp_in (nI w) 16 := vp_in_nI h5 (by decide)
      refine br_f h1 (br_t h2 (nm_e (br_f h3 (br_f h4 (br_t a ⟨c, nm_r (e' := upd o w (vp_nar .byte ((((v1.toInt16.toInt32 - l) * 16) + v2).toInt8.toInt32))) (by rw [g0, j]) (nm_r e1 ⟨pk_ns v1, pk_fs v1, ?_⟩)⟩)))))
      refine br_f h1 (br_t h2 (nm_e (br_f h3 (br_f h4 (br_t b (nm_r e1 ⟨c, nm_r (e' := upd o w (vp_nar .byte ((((v1.toInt16.toInt32 - l) * 16) + v2).toInt8.toInt32))) (by rw [g0]) ⟨pk_ns v1, pk_fs v1, ?_⟩⟩))))))
      exact ⟨rfl, tf_mk hd h5 hs⟩
    · have a : ¬ nI w < 16 := nI_nlt (b := 16) (by omega) (by omega)
      have b : ¬ nI w + 1 ≤ 16 := by rw [e1]; exact nI_ge (a := 16) (by omega) (by omega)
      exact br_f h1 (br_t h2 (nm_e (br_f h3 (br_f h4 (br_f a (br_f h1 (br_t h2 (nm_e (br_f h3 (br_f h4 (br_f b ⟨rfl, tf_mk hd hw hs⟩)))))))))))
  · exact br_f h1 (br_f h2 (br_f h1 (br_f h2 ⟨rfl, tf_mk hd hw hs⟩)))
theorem i_vc_structBegin {k : Nat} {u : SX} {v : SY} (I : i_Rel k u v) (hk : k + 3 ≤ 1536) : wpX_structBegin (fun r u' => wpY_structBegin (fun r' v' => r' = r ∧ i_Rel (k + 3) u' v') v) u := by
  obtain ⟨l, d, w, s, o, rfl, rfl, hd, hw, hs⟩ := I
  by_cases h : d < 3
  · have a : nI d < 3 := nI_lt (b := 3) h (by decide)
    have c : vp_in (nI d) 3 := vp_in_nI h (by decide)
    have g0 : (nI d).toNatClampNeg = d := nI_clamp (by omega)
    refine br_t a ⟨c, nm_r (e' := upd s d (vp_nar .short l)) (by rw [g0]) (nm_r (nI_1 d) ?_)⟩
    refine br_t a (nm_r (nI_1 d) ⟨c, nm_r (e' := upd s d (vp_nar .short l)) (by rw [g0]) ?_⟩)
    exact ⟨rfl, tf_mk h hw (tf_up hs d l)⟩
  · have a : ¬ nI d < 3 := nI_nlt (b := 3) (by omega) (by omega)
    exact br_f a (br_f a ⟨rfl, tf_mk hd hw hs⟩)
theorem i_vc_structEnd {k : Nat} {u : SX} {v : SY} (I : i_Rel k u v) (hk : k + 3 ≤ 1536) : wpX_structEnd (fun r u' => wpY_structEnd (fun r' v' => r' = r ∧ i_Rel (k + 3) u' v') v) u := by
  obtain ⟨l, d, w, s, o, rfl, rfl, hd, hw, hs⟩ := I
  by_cases h : 0 < d
  · obtain ⟨e, rfl⟩ : ∃ e, d = e + 1 := ⟨d - 1, by omega⟩
    have a : 0 < nI (e + 1) := nI_lt (a := 0) h (by omega)
    by_cases h5 : w < 16
    · have b : nI w < 16 := nI_lt (b := 16) h5 (by decide)
      have c : vp_in (nI w) 16 := vp_in_nI h5 (by decide)
      have c' : vp_in (nI e) 3 := vp_in_nI (by omega) (by decide)
      have g0 : (nI w).toNatClampNeg = w := nI_clamp (by omega)
      have g1 : (nI e).toNatClampNeg = e := nI_clamp (by omega)
      have q : nI (e + 1) - 1 = nI e := nI_pred e
      refine br_t a (br_t b ⟨c, nm_r (e' := upd o w (vp_nar .byte 0)) (by rw [g0]) (nm_r (nI_1 w) (nm_r q ⟨c', nm_r (e' := s e) (by rw [g1]) ⟨tf_ns (hs e), tf_fs (hs e), ?_⟩⟩))⟩)
      refine br_t a (br_t b (nm_r (nI_1 w) ⟨c, nm_r (e' := upd o w (vp_nar .byte 0)) (by rw [g0]) (nm_r q ⟨by rw [q]; exact c', nm_r (e' := s e) (by rw [q, g1]) ⟨tf_ns (hs e), tf_fs (hs e), ?_⟩⟩)⟩))
      exact ⟨rfl, tf_mk (by omega) h5 hs⟩
    · have b : ¬ nI w < 16 := nI_nlt (b := 16) (by omega) (by omega)
      exact br_t a (br_f b (br_t a (br_f b ⟨rfl, tf_mk hd hw hs⟩)))
  · have a : ¬ 0 < nI d := nI_nlt (a := 0) (by omega) (by decide)
    exact br_f a (br_f a ⟨rfl, tf_mk hd hw hs⟩)
theorem i_vc_byteAt {k : Nat} {u : SX} {v : SY} (I : i_Rel k u v) (hk : k + 3 ≤ 1536) (v1 : Int32) : wpX_byteAt (fun r => wpY_byteAt (fun r' => r' = r ∧ i_Rel (k + 3) u v) v v1) u v1 := by
  obtain ⟨l, d, w, s, o, rfl, rfl, hd, hw, hs⟩ := I
  by_cases h0 : v1 < 0
  · exact br_t h0 (br_t h0 ⟨rfl, tf_mk hd hw hs⟩)
  obtain ⟨j, hj, rfl⟩ := nI_of h0
  by_cases h : j < w
  · have a : ¬ nI w ≤ nI j := nI_ge h (by omega)
    have b : nI j < nI w := nI_lt h (by omega)
    have c : vp_in (nI j) 16 := vp_in_nI (by omega) (by decide)
    exact br_f h0 (br_f a ⟨c, br_f h0 (br_t b ⟨c, rfl, tf_mk hd hw hs⟩)⟩)
  · have a : nI w ≤ nI j := nI_le (by omega) hj
    have b : ¬ nI j < nI w := nI_nlt (by omega) hj
    exact br_f h0 (br_t a (br_f h0 (br_f b ⟨rfl, tf_mk hd hw hs⟩)))
end
