section
theorem pk_us {f : Nat → Int32} {k : Nat} {x : Int32} : upd f k x k = x := if_pos rfl
theorem pk_un {f : Nat → Int32} {k j : Nat} {x : Int32} (h : j ≠ k) : upd f k x j = f j := if_neg h
theorem pk_div {a d : Nat} (ha : a < 2 ^ 31) (h0 : 0 < d) (hd : d < 2 ^ 31) : nI a / nI d = nI (a / d) := by
  apply Int32.toInt_inj.mp
  rw [lg_idiv_nonneg (by rw [nI_toInt ha]; omega) (by rw [nI_toInt hd]; omega), nI_toInt ha, nI_toInt hd, nI_toInt (Nat.lt_of_le_of_lt (Nat.div_le_self a d) ha)]
  first | rfl | exact (Int.natCast_ediv _ _).symm
theorem pk_tn {n : Nat} (h : n < 2 ^ 32) : (nI n).toBitVec.toNat = n := Nat.mod_eq_of_lt h
theorem pk_shr (a s : Int32) (k : Nat) (hs : (s.toBitVec.smod 32).toNat = k) : (a >>> s).toInt = a.toInt >>> k := by
  show (a.toBitVec.sshiftRight (s.toBitVec.smod 32).toNat).toInt = _
  rw [hs, BitVec.toInt_sshiftRight]
  rfl
theorem pk_shrN {n : Nat} (h : n < 2 ^ 31) (s : Int32) (k : Nat) (hs : (s.toBitVec.smod 32).toNat = k) : nI n >>> s = nI (n / 2 ^ k) := by
  apply Int32.toInt_inj.mp
  have h2 : n / 2 ^ k ≤ n := Nat.div_le_self _ _
  rw [pk_shr _ _ k hs, nI_toInt h, nI_toInt (by omega), Int.shiftRight_eq_div_pow]
  rfl
theorem pk_charN {q : Nat} (hq : q < 65536) : narrow .char (.int (nI q)) = .int (nI q) ∧ fits .char (.int (nI q)) = true := by
  constructor
  · have e : (nI q).toUInt32.toUInt16.toUInt32.toInt32 = nI q := by
      apply Int32.toBitVec_inj.mp
      apply BitVec.eq_of_toNat_eq
      show (nI q).toUInt32.toUInt16.toUInt32.toNat = q % 2 ^ 32
      rw [UInt16.toNat_toUInt32, UInt32.toNat_toUInt16, show (nI q).toUInt32.toNat = q % 2 ^ 32 from rfl]
      omega
    exact congrArg Value.int e
  · have a : (0 : Int32) ≤ nI q := nI_pos' (by omega)
    have b : nI q ≤ 65535 := nI_le (b := 65535) (by omega) (by decide)
    show (decide ((0 : Int32) ≤ nI q) && decide (nI q ≤ 65535)) = true
    rw [decide_eq_true a, decide_eq_true b]
    rfl
theorem pk_char (x : Int32) : (x.toUInt32 % 65536).toInt32 = nI (x.toBitVec.toNat % 65536) := by
  apply Int32.toBitVec_inj.mp
  apply BitVec.eq_of_toNat_eq
  rw [pk_tn (by omega)]
  show (x.toUInt32 % 65536).toNat = _
  rw [UInt32.toNat_mod]
  rfl
end
section
/-- every cell holds a count of at most t -/
def qd_B (t : Nat) (a : Nat → Int32) : Prop := ∀ j, ∃ n, n ≤ t ∧ a j = nI n
theorem qd_Bw {s t : Nat} {a : Nat → Int32} (h : s ≤ t) (b : qd_B s a) : qd_B t a := fun j => by
  obtain ⟨n, hn, e⟩ := b j
  exact ⟨n, by omega, e⟩
theorem qd_Bu {t k n : Nat} {a : Nat → Int32} (b : qd_B t a) (hn : n ≤ t) : qd_B t (upd a k (nI n)) := fun j => by
  by_cases h : j = k
  · exact ⟨n, hn, by rw [h]; exact pk_us⟩
  · obtain ⟨i, hi, e⟩ := b j
    exact ⟨i, hi, (pk_un h).trans e⟩
theorem qd_Bz {t k : Nat} {a : Nat → Int32} (b : qd_B t a) : qd_B t (upd a k 0) := by
  rw [← nI_0]
  exact qd_Bu b (Nat.zero_le t)
theorem qd_char {n : Nat} (h : n < 65536) : ((nI n).toUInt32 % 65536).toInt32 = nI n := by
  rw [pk_char, pk_tn (by omega), Nat.mod_eq_of_lt h]
theorem qd_nar {n : Nat} (h : n < 65536) : vp_nar .char (nI n) = nI n := Value.int.inj (pk_charN h).1
theorem qd_nar0 : vp_nar .char 0 = 0 := by
  rw [← nI_0]
  exact qd_nar (by omega)
theorem qd_l0 : lN 0 = 0 := rfl
/-- compress, from the pair at 2 m down: one outcome for both sides -/
theorem qd_cp {t : Nat} (ht : t ≤ 1024) (f : Int32) : ∀ m, m ≤ 15 → ∀ (a : Nat → Int32) (mv : Int32), qd_B t a →
    ∃ (r : Int32) (a' : Nat → Int32), qd_B t a' ∧
      (∀ post : Int32 → SX → Prop, post r (f, a') → wX_compress_12 post (nI (t / 4)) f (m + 1) mv (nI (2 * m)) a) ∧
      (∀ post : Int32 → SY → Prop, post r (f, a') → wY_compress_12 post (nI (t / 4)) f (m + 1) mv (nI (2 * m)) a) := by
  intro m
  induction m with
  | zero =>
    intro _ a mv b
    have h : nI (2 * 0) < 2 := by decide
    exact ⟨mv, a, b, fun _ hp => br_t h hp, fun _ hp => br_t h hp⟩
  | succ m ih =>
    intro hm a mv b
    have h2 : ¬ nI (2 * (m + 1)) < 2 := nI_nlt (b := 2) (by omega) (by omega)
    have i0 : vp_in (nI (2 * (m + 1))) 32 := vp_in_nI (by omega) (by decide)
    have e1 : nI (2 * (m + 1)) + 1 = nI (2 * (m + 1) + 1) := nI_1 _
    have i1 : vp_in (nI (2 * (m + 1)) + 1) 32 := by rw [e1]; exact vp_in_nI (by omega) (by decide)
    have ed : nI (2 * (m + 1)) / 2 = nI (m + 1) := by
      have h := pk_div (a := 2 * (m + 1)) (d := 2) (by omega) (by decide) (by decide)
      rw [Nat.mul_div_cancel_left _ (by decide)] at h
      exact h
    have es : nI (2 * (m + 1)) >>> ((1 : Int32) &&& 31) = nI (m + 1) := by
      rw [pk_shrN (by omega) _ 1 (by decide)]
      exact congrArg nI (by omega)
    have em : nI (2 * (m + 1)) + (-2) = nI (2 * m) := by
      have h : nI (2 * (m + 1)) = nI (2 * m) + 2 := (nI_add (2 * m) 2).symm
      rw [h, Int32.add_assoc, show (2 : Int32) + (-2) = 0 from rfl, Int32.add_zero]
    have id : vp_in (nI (2 * (m + 1)) / 2) 32 := by rw [ed]; exact vp_in_nI (by omega) (by decide)
    have is : vp_in (nI (2 * (m + 1)) >>> ((1 : Int32) &&& 31)) 32 := by rw [es]; exact vp_in_nI (by omega) (by decide)
    have c0 : (nI (2 * (m + 1))).toNatClampNeg = 2 * (m + 1) := nI_clamp (by omega)
    have c1 : (nI (2 * (m + 1)) + 1).toNatClampNeg = 2 * (m + 1) + 1 := by rw [e1]; exact nI_clamp (by omega)
    have cd : (nI (2 * (m + 1)) / 2).toNatClampNeg = m + 1 := by rw [ed]; exact nI_clamp (by omega)
    have cs : (nI (2 * (m + 1)) >>> ((1 : Int32) &&& 31)).toNatClampNeg = m + 1 := by rw [es]; exact nI_clamp (by omega)
    have z2 : ¬ (2 : Int32) = 0 := by decide
    obtain ⟨p, hp, ep⟩ := b (2 * (m + 1))
    obtain ⟨q, hq, eq⟩ := b (2 * (m + 1) + 1)
    obtain ⟨w, hw, ew⟩ := b (m + 1)
    have x4 : (a (nI (2 * (m + 1))).toNatClampNeg).toInt64 + (a (nI (2 * (m + 1)) + 1).toNatClampNeg).toInt64 = lN (p + q) := by
      rw [c0, c1, ep, eq, nI_l (by omega), nI_l (by omega), lN_add]
    have x6 : lN (p + q) + (a (nI (2 * (m + 1)) / 2).toNatClampNeg).toInt64 = lN (p + q + w) := by
      rw [cd, ew, nI_l (by omega), lN_add]
    have y4 : a (nI (2 * (m + 1))).toNatClampNeg + a (nI (2 * (m + 1)) + 1).toNatClampNeg = nI (p + q) := by
      rw [c0, c1, ep, eq, nI_add]
    have y6 : nI (p + q) + a (nI (2 * (m + 1)) >>> ((1 : Int32) &&& 31)).toNatClampNeg = nI (p + q + w) := by
      rw [cs, ew, nI_add]
    have lX : lN (p + q) ≤ 0 ↔ p + q = 0 := by
      rw [← qd_l0, lN_le (by omega) (by omega)]
      omega
    have lY : nI (p + q) ≤ 0 ↔ p + q = 0 := by
      rw [← nI_0, nI_leI (by omega) (by omega)]
      omega
    have gX : (nI (t / 4)).toInt64 < lN (p + q + w) ↔ t / 4 < p + q + w := by
      rw [nI_l (by omega), lN_lt (by omega) (by omega)]
    have gY : nI (t / 4) < nI (p + q) + a (nI (2 * (m + 1)) >>> ((1 : Int32) &&& 31)).toNatClampNeg ↔ t / 4 < p + q + w := by
      rw [y6, nI_ltI (by omega) (by omega)]
    by_cases z : p + q = 0
    · obtain ⟨r, a', b', hX, hY⟩ := ih (by omega) a mv b
      refine ⟨r, a', b', fun post k => ?_, fun post k => ?_⟩
      · exact br_f h2 ⟨i0, i1, nm_r x4 ⟨z2, id, nm_r x6 (br_t (lX.mpr z) (nm_r em (hX post k)))⟩⟩
      · exact br_f h2 ⟨i0, i1, nm_r y4 (br_t (lY.mpr z) (nm_r em (hY post k)))⟩
    · by_cases g : t / 4 < p + q + w
      · obtain ⟨r, a', b', hX, hY⟩ := ih (by omega) a mv b
        refine ⟨r, a', b', fun post k => ?_, fun post k => ?_⟩
        · exact br_f h2 ⟨i0, i1, nm_r x4 ⟨z2, id, nm_r x6 (br_f (fun h => z (lX.mp h)) (br_t (gX.mpr g) (nm_r em (hX post k))))⟩⟩
        · exact br_f h2 ⟨i0, i1, nm_r y4 (br_f (fun h => z (lY.mp h)) ⟨is, br_t (gY.mpr g) (nm_r em (hY post k))⟩)⟩
      · have b3 : qd_B t (upd (upd (upd a (m + 1) (nI (w + p + q))) (2 * (m + 1)) 0) (2 * (m + 1) + 1) 0) :=
          qd_Bz (qd_Bz (qd_Bu b (by omega)))
        have x19 : upd a (nI (2 * (m + 1)) / 2).toNatClampNeg (a (nI (2 * (m + 1)) / 2).toNatClampNeg + a (nI (2 * (m + 1))).toNatClampNeg + a (nI (2 * (m + 1)) + 1).toNatClampNeg) = upd a (m + 1) (nI (w + p + q)) := by
          rw [cd, c0, c1, ep, eq, ew, nI_add, nI_add]
        have y13 : upd a (nI (2 * (m + 1)) >>> ((1 : Int32) &&& 31)).toNatClampNeg (vp_nar .char (((a (nI (2 * (m + 1)) >>> ((1 : Int32) &&& 31)).toNatClampNeg + nI (p + q)).toUInt32 % 65536).toInt32)) = upd a (m + 1) (nI (w + p + q)) := by
          rw [cs, ew, nI_add, qd_char (by omega), qd_nar (by omega), Nat.add_assoc]
        obtain ⟨r, a', b', hX, hY⟩ := ih (by omega) _ (mv + 1) b3
        refine ⟨r, a', b', fun post k => ?_, fun post k => ?_⟩
        · refine br_f h2 ⟨i0, i1, nm_r x4 ⟨z2, id, nm_r x6 (br_f (fun h => z (lX.mp h)) (br_f (fun h => g (gX.mp h)) ⟨z2, z2, id, i0, i1, id, nm_r x19 ⟨i0, nm_e ⟨i1, nm_e (nm_e (nm_r em ?_))⟩⟩⟩))⟩⟩
          rw [c0, c1]
          exact hX post k
        · refine br_f h2 ⟨i0, i1, nm_r y4 (br_f (fun h => z (lY.mp h)) ⟨is, br_f (fun h => g (gY.mp h)) ⟨is, is, nm_r y13 ⟨i0, nm_e ⟨i1, nm_e (nm_e (nm_r em ?_))⟩⟩⟩⟩)⟩
          rw [c0, c1, qd_nar0]
          exact hY post k
/-- the depth of node i of the heap tree, its level's first node, its level's width -/
def qd_d (i : Nat) : Nat := if i < 2 then 0 else if i < 4 then 1 else if i < 8 then 2 else if i < 16 then 3 else 4
def qd_lo (d : Nat) : Int32 := (1 : Int32) <<< (nI d &&& 31)
def qd_w (d : Nat) : Int32 := (16 : Int32) >>> (nI d &&& 31)
theorem qd_f1 : ∀ i, i < 32 → ∀ d, d < 5 → d < qd_d i → ¬ (4 : Int32) ≤ nI d ∧ ¬ nI i < (1 : Int32) <<< ((nI d + 1) &&& 31) := by decide +kernel
theorem qd_f2 : ∀ i, i < 32 → (4 : Int32) ≤ nI (qd_d i) ∨ nI i < (1 : Int32) <<< ((nI (qd_d i) + 1) &&& 31) := by decide +kernel
theorem qd_f3 : ∀ i, i < 31 → (nI (i + 1) < qd_lo (qd_d i) + qd_lo (qd_d i) ∧ qd_d i = qd_d (i + 1)) ∨ (¬ nI (i + 1) < qd_lo (qd_d i) + qd_lo (qd_d i) ∧ qd_lo (qd_d i) + qd_lo (qd_d i) = qd_lo (qd_d (i + 1)) ∧ qd_w (qd_d i) >>> ((1 : Int32) &&& 31) = qd_w (qd_d (i + 1))) := by decide +kernel
theorem qd_d5 (i : Nat) : qd_d i < 5 := by
  unfold qd_d
  repeat' split
  all_goals omega
/-- the inner loop of X's rankOf finds the depth -/
theorem qd_in {post : Int32 → Prop} {J : Int32 → Int32 → Prop} {x1 x2 f : Int32} {a : Nat → Int32} {i : Nat} (hi : i < 32)
    (K : wX_rankOf_38 post J x1 x2 (nI i) (nI (qd_d i)) f a) : ∀ e d, d + e = qd_d i → wX_rankOf_13 post J x1 x2 (nI i) f a (e + 1) (nI d) := by
  intro e
  induction e with
  | zero =>
    intro d hd
    obtain rfl : d = qd_d i := by omega
    by_cases h : (4 : Int32) ≤ nI (qd_d i)
    · exact br_t h K
    · exact br_f h (br_t ((qd_f2 i hi).resolve_left h) K)
  | succ e ih =>
    intro d hd
    have h5 := qd_d5 i
    have h := qd_f1 i hi d (by omega) (by omega)
    exact br_f h.1 (br_f h.2 (nm_r (nI_1 d) (ih (d + 1) (by omega))))
/-- rankOf, from node i + 1 on: one sum for both sides -/
theorem qd_rk (x1 f : Int32) (a : Nat → Int32) : ∀ e i, i + e = 31 → ∀ s : Int32, ∃ r : Int32,
    (∀ post : Int32 → Prop, post r → wX_rankOf_4 post x1 f a (e + 1) s (nI (i + 1))) ∧
    (∀ post : Int32 → Prop, post r → wY_rankOf_11 post x1 f a (e + 1) s (qd_lo (qd_d i)) (qd_w (qd_d i)) (nI (i + 1))) := by
  intro e
  induction e with
  | zero =>
    intro i hi s
    obtain rfl : i = 31 := by omega
    have hX : (31 : Int32) < nI (31 + 1) := by decide
    have hY : (32 : Int32) ≤ nI (31 + 1) := by decide
    exact ⟨s, fun _ h => br_t hX h, fun _ h => br_t hY h⟩
  | succ e ih =>
    intro i hi s
    have hX : ¬ (31 : Int32) < nI (i + 1) := nI_nlt (a := 31) (by omega) (by decide)
    have hY : ¬ (32 : Int32) ≤ nI (i + 1) := nI_ge (b := 32) (by omega) (by decide)
    have hv : vp_in (nI (i + 1)) 32 := vp_in_nI (by omega) (by decide)
    by_cases g : x1 < (nI (i + 1) - qd_lo (qd_d (i + 1)) + 1) * qd_w (qd_d (i + 1)) - 1
    · obtain ⟨r, kX, kY⟩ := ih (i + 1) (by omega) s
      refine ⟨r, fun post h => br_f hX ⟨_, qd_in (by omega) ?_ (qd_d (i + 1)) 0 (Nat.zero_add _)⟩, fun post h => br_f hY ?_⟩
      · exact nm_e (br_t g (nm_r (nI_1 (i + 1)) (kX post h)))
      · have kk : wY_rankOf_36 post (wY_rankOf_11 post x1 f a (e + 1)) x1 s (qd_lo (qd_d (i + 1))) (qd_w (qd_d (i + 1))) (nI (i + 1)) f a :=
          br_t g (nm_r (nI_1 (i + 1)) (kY post h))
        rcases qd_f3 i (by omega) with ⟨c, ec⟩ | ⟨c, el, ew⟩
        · rw [← ec] at kk
          exact br_t c kk
        · exact br_f c (nm_r el (nm_r ew kk))
    · obtain ⟨r, kX, kY⟩ := ih (i + 1) (by omega) (s + a (nI (i + 1)).toNatClampNeg)
      refine ⟨r, fun post h => br_f hX ⟨_, qd_in (by omega) ?_ (qd_d (i + 1)) 0 (Nat.zero_add _)⟩, fun post h => br_f hY ?_⟩
      · exact nm_e (br_f g ⟨hv, nm_e (nm_r (nI_1 (i + 1)) (kX post h))⟩)
      · have kk : wY_rankOf_36 post (wY_rankOf_11 post x1 f a (e + 1)) x1 s (qd_lo (qd_d (i + 1))) (qd_w (qd_d (i + 1))) (nI (i + 1)) f a :=
          br_f g ⟨hv, nm_e (nm_r (nI_1 (i + 1)) (kY post h))⟩
        rcases qd_f3 i (by omega) with ⟨c, ec⟩ | ⟨c, el, ew⟩
        · rw [← ec] at kk
          exact br_t c kk
        · exact br_f c (nm_r el (nm_r ew kk))
end
section
/-- both sides hold the same total and the same counts; the total is at most the cells read, every count at most the total -/
def i_Rel (k : Nat) (u : SX) (v : SY) : Prop := u = v ∧ ∃ t, t ≤ k ∧ u.1 = nI t ∧ qd_B t u.2
theorem i_up {k : Nat} {u : SX} {v : SY} (h : i_Rel k u v) : i_Rel (k + 2) u v := by
  obtain ⟨e, t, ht, r⟩ := h
  exact ⟨e, t, by omega, r⟩
theorem i_vc0 : wpX_init (fun u => wpY_init (fun v => i_Rel 0 u v)) :=
  ⟨rfl, 0, Nat.le_refl 0, nI_0.symm, fun _ => ⟨0, Nat.le_refl 0, nI_0.symm⟩⟩
theorem i_vc_add {k : Nat} {u : SX} {v : SY} (I : i_Rel k u v) (hk : k + 2 ≤ 1024) (v1 : Int32) : wpX_add (fun r u' => wpY_add (fun r' v' => r' = r ∧ i_Rel (k + 2) u' v') v v1) u v1 := by
  obtain ⟨rfl, t, ht, e, b⟩ := I
  obtain ⟨f, a⟩ := u
  dsimp only at e b
  subst e
  by_cases h0 : v1 < 0
  · exact br_t h0 (br_t h0 ⟨rfl, rfl, t, by omega, rfl, b⟩)
  · by_cases h15 : v1 ≤ 15
    · obtain ⟨j, hj, rfl⟩ := nI_of2 (M := 15) (n := 15) (by decide) h0 h15
      have e16 : (16 : Int32) + nI j = nI (16 + j) := nI_add 16 j
      have hi : vp_in (16 + nI j) 32 := by rw [e16]; exact vp_in_nI (by omega) (by decide)
      have hc : (16 + nI j).toNatClampNeg = 16 + j := by rw [e16]; exact nI_clamp (by omega)
      obtain ⟨n, hn, en⟩ := b (16 + j)
      have ex : upd a (16 + nI j).toNatClampNeg (a (16 + nI j).toNatClampNeg + 1) = upd a (16 + j) (nI (n + 1)) := by
        rw [hc, en, nI_1]
      have er : ((a (16 + nI j).toNatClampNeg + 1).toUInt32 % 65536).toInt32 = nI (n + 1) := by
        rw [hc, en, nI_1, qd_char (by omega)]
      have ey : upd a (16 + nI j).toNatClampNeg (vp_nar .char (((a (16 + nI j).toNatClampNeg + 1).toUInt32 % 65536).toInt32)) = upd a (16 + j) (nI (n + 1)) := by
        rw [er, hc, qd_nar (by omega)]
      have ea : upd a (16 + j) (nI (n + 1)) (16 + nI j).toNatClampNeg = nI (n + 1) := by
        rw [hc]
        exact pk_us
      refine br_f h0 (br_t h15 (nm_r (nI_1 t) ⟨hi, hi, nm_r ex ⟨hi, ?_⟩⟩))
      refine br_f h0 (br_t h15 (nm_r (nI_1 t) ⟨hi, hi, nm_r ey ?_⟩))
      exact ⟨er.trans ea.symm, rfl, t + 1, by omega, rfl, qd_Bu (qd_Bw (Nat.le_succ t) b) (by omega)⟩
    · exact br_f h0 (br_f h15 (br_f h0 (br_f h15 ⟨rfl, rfl, t, by omega, rfl, b⟩)))
theorem i_vc_compress {k : Nat} {u : SX} {v : SY} (I : i_Rel k u v) (hk : k + 2 ≤ 1024) : wpX_compress (fun r u' => wpY_compress (fun r' v' => r' = r ∧ i_Rel (k + 2) u' v') v) u := by
  obtain ⟨rfl, t, ht, e, b⟩ := I
  obtain ⟨f, a⟩ := u
  dsimp only at e b
  subst e
  have es : nI t >>> ((2 : Int32) &&& 31) = nI (t / 4) := pk_shrN (by omega) _ 2 (by decide)
  obtain ⟨r, a', b', hX, hY⟩ := qd_cp (t := t) (by omega) (nI t) 15 (Nat.le_refl 15) a 0 b
  exact nm_r es ⟨_, hX _ (nm_r es ⟨_, hY _ ⟨rfl, rfl, t, by omega, rfl, b'⟩⟩)⟩
theorem i_vc_rankOf {k : Nat} {u : SX} {v : SY} (I : i_Rel k u v) (hk : k + 2 ≤ 1024) (v1 : Int32) : wpX_rankOf (fun r => wpY_rankOf (fun r' => r' = r ∧ i_Rel (k + 2) u v) v v1) u v1 := by
  have I2 := i_up I
  obtain ⟨rfl, -⟩ := I
  obtain ⟨f, a⟩ := u
  obtain ⟨r, hX, hY⟩ := qd_rk v1 f a 31 0 rfl 0
  exact ⟨_, hX _ ⟨_, hY _ ⟨rfl, I2⟩⟩⟩
end
