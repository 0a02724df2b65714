section
theorem pk_tn {n : Nat} (h : n < 2 ^ 32) : (nI n).toBitVec.toNat = n := Nat.mod_eq_of_lt h
theorem pk_and (x : Int32) {m : Int32} (k : Nat) (hm : m.toBitVec.toNat = 2 ^ k - 1) : x &&& m = nI (x.toBitVec.toNat % 2 ^ k) := by
  apply Int32.toBitVec_inj.mp
  apply BitVec.eq_of_toNat_eq
  rw [Int32.toBitVec_and, BitVec.toNat_and, hm, Nat.and_two_pow_sub_one_eq_mod]
  show _ = (BitVec.ofNat 32 _).toNat
  rw [BitVec.toNat_ofNat]
  exact (Nat.mod_eq_of_lt (Nat.lt_of_le_of_lt (Nat.mod_le _ _) x.toBitVec.isLt)).symm
theorem pk_andN {n : Nat} (h : n < 2 ^ 32) {m : Int32} (k : Nat) (hm : m.toBitVec.toNat = 2 ^ k - 1) : nI n &&& m = nI (n % 2 ^ k) := by
  rw [pk_and _ k hm, pk_tn h]
theorem pk_andE (x : Int32) {m : Int32} (k : Nat) (hm : m.toBitVec.toNat = 2 ^ k - 1) : ∃ j : Nat, j < 2 ^ k ∧ x &&& m = nI j := ⟨_, Nat.mod_lt _ (Nat.two_pow_pos k), pk_and x k hm⟩
theorem pk_shr (a s : Int32) (k : Nat) (hs : (s.toBitVec.smod 32).toNat = k) : (a >>> s).toInt = a.toInt >>> k := by
  show (a.toBitVec.sshiftRight (s.toBitVec.smod 32).toNat).toInt = _
  rw [hs, BitVec.toInt_sshiftRight]
  rfl
theorem pk_shrN {n : Nat} (h : n < 2 ^ 31) (s : Int32) (k : Nat) (hs : (s.toBitVec.smod 32).toNat = k) : nI n >>> s = nI (n / 2 ^ k) := by
  apply Int32.toInt_inj.mp
  have h2 : n / 2 ^ k ≤ n := Nat.div_le_self _ _
  rw [pk_shr _ _ k hs, nI_toInt h, nI_toInt (by omega), Int.shiftRight_eq_div_pow]
  rfl
theorem pk_ushr (x s : Int32) (k : Nat) (hs : ((s.toUInt32 &&& Int32.toUInt32 31).toBitVec % 32).toNat = k) : (x.toUInt32 >>> (s.toUInt32 &&& Int32.toUInt32 31)).toInt32.toBitVec.toNat = x.toBitVec.toNat / 2 ^ k := by
  have e : (x.toUInt32 >>> (s.toUInt32 &&& Int32.toUInt32 31)).toInt32.toBitVec = x.toBitVec >>> k := by
    rw [← hs]
    exact UInt32.toBitVec_shiftRight _ _
  rw [e, BitVec.toNat_ushiftRight, Nat.shiftRight_eq_div_pow]
theorem pk_ushrN {n : Nat} (hn : n < 2 ^ 32) (s : Int32) (k : Nat) (hs : ((s.toUInt32 &&& Int32.toUInt32 31).toBitVec % 32).toNat = k) : ((nI n).toUInt32 >>> (s.toUInt32 &&& Int32.toUInt32 31)).toInt32 = nI (n / 2 ^ k) := by
  apply Int32.toBitVec_inj.mp
  apply BitVec.eq_of_toNat_eq
  rw [pk_ushr _ s k hs, pk_tn hn, pk_tn (Nat.lt_of_le_of_lt (Nat.div_le_self _ _) hn)]
theorem pk_charN {q : Nat} (hq : q < 65536) : narrow .char (.int (nI q)) = .int (nI q) ∧ fits .char (.int (nI q)) = true := by
  constructor
  · have e : (nI q).toUInt32.toUInt16.toUInt32.toInt32 = nI q := by
      apply Int32.toBitVec_inj.mp
      apply BitVec.eq_of_toNat_eq
      show (nI q).toUInt32.toUInt16.toUInt32.toNat = q % 2 ^ 32
      rw [UInt16.toNat_toUInt32, UInt32.toNat_toUInt16, show (nI q).toUInt32.toNat = q % 2 ^ 32 from rfl]
      omega
    exact congrArg Value.int e
  · have a : (0 : Int32) ≤ nI q := nI_pos' (by omega)
    have b : nI q ≤ 65535 := nI_le (b := 65535) (by omega) (by decide)
    show (decide ((0 : Int32) ≤ nI q) && decide (nI q ≤ 65535)) = true
    rw [decide_eq_true a, decide_eq_true b]
    rfl
theorem pk_char (x : Int32) : (x.toUInt32 % 65536).toInt32 = nI (x.toBitVec.toNat % 65536) := by
  apply Int32.toBitVec_inj.mp
  apply BitVec.eq_of_toNat_eq
  rw [pk_tn (by omega)]
  show (x.toUInt32 % 65536).toNat = _
  rw [UInt32.toNat_mod]
  rfl
theorem pk_nc (x : Int32) : narrow .char (.int (x.toUInt32 % 65536).toInt32) = .int (x.toUInt32 % 65536).toInt32 := by
  rw [pk_char]
  exact (pk_charN (Nat.mod_lt _ (by decide))).1
theorem pk_vc (z : Int32) : vp_nar .char (z.toUInt32 % 65536).toInt32 = (z.toUInt32 % 65536).toInt32 := Value.int.inj (pk_nc z)
end
section
/-- a colour of 15 bits -/
def pn_Ok (x : Int32) : Prop := ∃ n : Nat, n < 32768 ∧ x = nI n
theorem pn_0 : pn_Ok 0 := ⟨0, by omega, nI_0.symm⟩
theorem pn_mask (x : Int32) : pn_Ok (x &&& 32767) := pk_andE x 15 (by decide)
theorem pn_chr (x : Int32) : vp_nar .char (((x &&& 32767).toUInt32 % 65536).toInt32) = x &&& 32767 := by
  obtain ⟨n, hn, e⟩ := pn_mask x
  rw [e, pk_vc, pk_char, pk_tn (by omega), Nat.mod_eq_of_lt (by omega)]
theorem pn_r {x : Int32} (h : pn_Ok x) : (x.toUInt32 >>> ((10 : Int32).toUInt32 &&& Int32.toUInt32 31)).toInt32 = (x >>> ((10 : Int32) &&& 31)) &&& 31 := by
  obtain ⟨n, hn, rfl⟩ := h
  have e : n / 2 ^ 10 % 2 ^ 5 = n / 2 ^ 10 := Nat.mod_eq_of_lt (by omega)
  rw [pk_ushrN (by omega) 10 10 (by decide), pk_shrN (by omega) _ 10 (by decide), pk_andN (by omega) 5 (by decide), e]
theorem pn_g {x : Int32} (h : pn_Ok x) : (x.toUInt32 >>> ((5 : Int32).toUInt32 &&& Int32.toUInt32 31)).toInt32 = x >>> ((5 : Int32) &&& 31) := by
  obtain ⟨n, hn, rfl⟩ := h
  rw [pk_ushrN (by omega) 5 5 (by decide), pk_shrN (by omega) _ 5 (by decide)]
theorem pn_dr {p q : Int32} (hp : pn_Ok p) (hq : pn_Ok q) : ((p.toUInt32 >>> ((10 : Int32).toUInt32 &&& Int32.toUInt32 31)).toInt32) - ((q.toUInt32 >>> ((10 : Int32).toUInt32 &&& Int32.toUInt32 31)).toInt32) = ((p >>> ((10 : Int32) &&& 31)) &&& 31) - ((q >>> ((10 : Int32) &&& 31)) &&& 31) := by
  rw [pn_r hp, pn_r hq]
theorem pn_dg {p q : Int32} (hp : pn_Ok p) (hq : pn_Ok q) : (((p.toUInt32 >>> ((5 : Int32).toUInt32 &&& Int32.toUInt32 31)).toInt32) &&& 31) - (((q.toUInt32 >>> ((5 : Int32).toUInt32 &&& Int32.toUInt32 31)).toInt32) &&& 31) = ((p >>> ((5 : Int32) &&& 31)) &&& 31) - ((q >>> ((5 : Int32) &&& 31)) &&& 31) := by
  rw [pn_g hp, pn_g hq]
/-- the weighted squared distance of two colours -/
def pn_D (p q : Int32) : Int32 := (((2 * (((p >>> ((10 : Int32) &&& 31)) &&& 31) - ((q >>> ((10 : Int32) &&& 31)) &&& 31))) * (((p >>> ((10 : Int32) &&& 31)) &&& 31) - ((q >>> ((10 : Int32) &&& 31)) &&& 31))) + ((4 * (((p >>> ((5 : Int32) &&& 31)) &&& 31) - ((q >>> ((5 : Int32) &&& 31)) &&& 31))) * (((p >>> ((5 : Int32) &&& 31)) &&& 31) - ((q >>> ((5 : Int32) &&& 31)) &&& 31)))) + ((3 * ((p &&& 31) - (q &&& 31))) * ((p &&& 31) - (q &&& 31)))
/-- both scans, in lockstep: from equal best, distance and index they end with one answer -/
theorem pn_scan {a : Nat → Int32} (ha : ∀ j, pn_Ok (a j)) {q : Int32} (hq : pn_Ok q) {m : Nat} (hm : m ≤ 16) : ∀ (d j : Nat) (b t : Int32), j + d = m → ∃ r : Int32,
    (∀ post : Int32 → Prop, post r → wX_nearest_46 post ((q >>> ((10 : Int32) &&& 31)) &&& 31) ((q >>> ((5 : Int32) &&& 31)) &&& 31) (q &&& 31) (nI m) a (d + 1) b t (nI j)) ∧
    (∀ post : Int32 → Prop, post r → wY_nearest_14 post q (nI m) a (d + 1) b t (nI j)) := by
  intro d
  induction d with
  | zero =>
    intro j b t hj
    have h : nI m ≤ nI j := nI_le (by omega) (by omega)
    exact ⟨b, fun _ hp => br_t h hp, fun _ hp => br_t h hp⟩
  | succ d ih =>
    intro j b t hj
    have h : ¬ nI m ≤ nI j := nI_ge (by omega) (by omega)
    have hi : vp_in (nI j) 16 := vp_in_nI (by omega) (by omega)
    have hc : pn_Ok (a (nI j).toNatClampNeg) := ha _
    by_cases hb : b < 0
    · obtain ⟨r, hX, hY⟩ := ih (j + 1) (nI j) (pn_D (a (nI j).toNatClampNeg) q) (by omega)
      exact ⟨r, fun post hp => br_f h ⟨hi, nm_e (nm_e (nm_e (nm_e (nm_r (e' := pn_D (a (nI j).toNatClampNeg) q) rfl (br_t hb (nm_r (nI_1 j) (hX post hp)))))))⟩,
        fun post hp => br_f h ⟨hi, nm_e (nm_r (pn_dr hc hq) (nm_r (pn_dg hc hq) (nm_e (nm_r (e' := pn_D (a (nI j).toNatClampNeg) q) rfl (br_t hb (nm_r (nI_1 j) (hY post hp)))))))⟩⟩
    · by_cases ht : t ≤ pn_D (a (nI j).toNatClampNeg) q
      · obtain ⟨r, hX, hY⟩ := ih (j + 1) b t (by omega)
        exact ⟨r, fun post hp => br_f h ⟨hi, nm_e (nm_e (nm_e (nm_e (nm_r (e' := pn_D (a (nI j).toNatClampNeg) q) rfl (br_f hb (br_t ht (nm_r (nI_1 j) (hX post hp))))))))⟩,
          fun post hp => br_f h ⟨hi, nm_e (nm_r (pn_dr hc hq) (nm_r (pn_dg hc hq) (nm_e (nm_r (e' := pn_D (a (nI j).toNatClampNeg) q) rfl (br_f hb (br_t ht (nm_r (nI_1 j) (hY post hp))))))))⟩⟩
      · obtain ⟨r, hX, hY⟩ := ih (j + 1) (nI j) (pn_D (a (nI j).toNatClampNeg) q) (by omega)
        exact ⟨r, fun post hp => br_f h ⟨hi, nm_e (nm_e (nm_e (nm_e (nm_r (e' := pn_D (a (nI j).toNatClampNeg) q) rfl (br_f hb (br_f ht (nm_r (nI_1 j) (hX post hp))))))))⟩,
          fun post hp => br_f h ⟨hi, nm_e (nm_r (pn_dr hc hq) (nm_r (pn_dg hc hq) (nm_e (nm_r (e' := pn_D (a (nI j).toNatClampNeg) q) rfl (br_f hb (br_f ht (nm_r (nI_1 j) (hY post hp))))))))⟩⟩
/-- the two palettes are one: m live entries, every cell a colour of 15 bits -/
def i_Rel (_ : Nat) (u : SX) (v : SY) : Prop := ∃ (m : Nat) (a : Nat → Int32), m ≤ 16 ∧ (∀ j, pn_Ok (a j)) ∧ u = (nI m, a) ∧ v = (nI m, a)
theorem i_up {k : Nat} {u : SX} {v : SY} (h : i_Rel k u v) : i_Rel (k + 3) u v := h
theorem i_vc0 : wpX_init (fun u => wpY_init (fun v => i_Rel 0 u v)) :=
  ⟨0, fun _ => 0, by omega, fun _ => pn_0, by rw [nI_0], by rw [nI_0]⟩
theorem pn_upd {a : Nat → Int32} (ha : ∀ j, pn_Ok (a j)) (i : Nat) (x : Int32) : ∀ j, pn_Ok (upd a i (x &&& 32767) j) := by
  intro j
  unfold upd
  by_cases e : j = i
  · rw [if_pos e]; exact pn_mask x
  · rw [if_neg e]; exact ha j
theorem i_vc_define {k : Nat} {u : SX} {v : SY} (I : i_Rel k u v) (hk : k + 3 ≤ 1536) (v1 : Int32) (v2 : Int32) : wpX_define (fun r u' => wpY_define (fun r' v' => r' = r ∧ i_Rel (k + 3) u' v') v v1 v2) u v1 v2 := by
  obtain ⟨m, a, hm, ha, rfl, rfl⟩ := I
  have hs : i_Rel (k + 3) (nI m, a) (nI m, a) := ⟨m, a, hm, ha, rfl, rfl⟩
  by_cases h0 : v1 < 0
  · exact br_t h0 (br_t h0 ⟨rfl, hs⟩)
  · by_cases h15 : v1 ≤ 15
    · by_cases hu : v1 ≤ nI m
      · obtain ⟨j, hj, rfl⟩ := nI_of2 (n := 15) (M := 15) (by decide) h0 h15
        have hi : vp_in (nI j) 16 := vp_in_nI (by omega) (by omega)
        have hw := pn_upd ha (nI j).toNatClampNeg v2
        have ec : upd a (nI j).toNatClampNeg (vp_nar .char (((v2 &&& 32767).toUInt32 % 65536).toInt32)) = upd a (nI j).toNatClampNeg (v2 &&& 32767) := by rw [pn_chr]
        by_cases he : nI j = nI m
        · have hjm : j = m := (nI_eq (by omega) (by omega)).mp he
          exact br_f h0 (br_t h15 (br_t hu ⟨hi, nm_e ⟨hi, nm_e (br_t he (nm_r (nI_1 m) (br_f h0 (br_t h15 (br_t hu ⟨hi, nm_e ⟨hi, nm_r ec (br_t he (nm_r (nI_1 m) ⟨rfl, m + 1, _, by omega, hw, rfl, rfl⟩))⟩⟩)))))⟩⟩))
        · exact br_f h0 (br_t h15 (br_t hu ⟨hi, nm_e ⟨hi, nm_e (br_f he (br_f h0 (br_t h15 (br_t hu ⟨hi, nm_e ⟨hi, nm_r ec (br_f he ⟨rfl, m, _, hm, hw, rfl, rfl⟩)⟩⟩))))⟩⟩))
      · exact br_f h0 (br_t h15 (br_f hu (br_f h0 (br_t h15 (br_f hu ⟨rfl, hs⟩)))))
    · exact br_f h0 (br_f h15 (br_f h0 (br_f h15 ⟨rfl, hs⟩)))
theorem i_vc_nearest {k : Nat} {u : SX} {v : SY} (I : i_Rel k u v) (hk : k + 3 ≤ 1536) (v1 : Int32) : wpX_nearest (fun r => wpY_nearest (fun r' => r' = r ∧ i_Rel (k + 3) u v) v v1) u v1 := by
  obtain ⟨m, a, hm, ha, rfl, rfl⟩ := I
  have hs : i_Rel (k + 3) (nI m, a) (nI m, a) := ⟨m, a, hm, ha, rfl, rfl⟩
  by_cases h0 : nI m = 0
  · have h : nI m ≤ (0 : Int32) := by rw [h0]; exact Int32.le_refl 0
    exact br_t h0 (nm_e ⟨1, br_t h ⟨rfl, hs⟩⟩)
  · obtain ⟨r, hX, hY⟩ := pn_scan ha (pn_mask v1) hm m 0 (-1) 0 (by omega)
    rw [nI_0] at hX hY
    exact br_f h0 (nm_e (nm_e (nm_e (nm_e ⟨_, hX _ (nm_e ⟨_, hY _ ⟨rfl, hs⟩⟩)⟩))))
theorem i_vc_colourAt {k : Nat} {u : SX} {v : SY} (I : i_Rel k u v) (hk : k + 3 ≤ 1536) (v1 : Int32) : wpX_colourAt (fun r => wpY_colourAt (fun r' => r' = r ∧ i_Rel (k + 3) u v) v v1) u v1 := by
  obtain ⟨m, a, hm, ha, rfl, rfl⟩ := I
  have hs : i_Rel (k + 3) (nI m, a) (nI m, a) := ⟨m, a, hm, ha, rfl, rfl⟩
  by_cases h0 : v1 < 0
  · exact br_t h0 (br_t h0 ⟨rfl, hs⟩)
  · by_cases hu : v1 < nI m
    · have hi : vp_in v1 16 := by
        obtain ⟨j, hj, rfl⟩ := nI_of h0
        rw [nI_ltI hj (by omega)] at hu
        exact vp_in_nI (by omega) (by omega)
      exact br_f h0 (br_t hu ⟨hi, br_f h0 (br_t hu ⟨hi, rfl, hs⟩)⟩)
    · exact br_f h0 (br_f hu (br_f h0 (br_f hu ⟨rfl, hs⟩)))
theorem i_vc_used {k : Nat} {u : SX} {v : SY} (I : i_Rel k u v) (hk : k + 3 ≤ 1536) : wpX_used (fun r => wpY_used (fun r' => r' = r ∧ i_Rel (k + 3) u v) v) u := by
  obtain ⟨m, a, hm, ha, rfl, rfl⟩ := I
  exact ⟨rfl, m, a, hm, ha, rfl, rfl⟩
end
