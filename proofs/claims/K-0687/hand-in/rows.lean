section
/-! rows taken from kit/rows/PURE-ROWS (starting text) -/
theorem pk_sub {a b : Nat} (h : b ≤ a) : nI a - nI b = nI (a - b) := by
  obtain ⟨c, rfl⟩ : ∃ c, a = c + b := ⟨a - b, by omega⟩
  rw [← nI_add, Int32.add_sub_cancel, Nat.add_sub_cancel]
theorem pk_m1 (n : Nat) : nI (n + 1) + (-1) = nI n := by
  rw [← nI_1, Int32.add_assoc, show (1 : Int32) + (-1) = 0 from rfl, Int32.add_zero]
theorem pk_mul (a b : Nat) : nI a * nI b = nI (a * b) := (Int32.ofNat_mul a b).symm
theorem pk_div {a d : Nat} (ha : a < 2 ^ 31) (h0 : 0 < d) (hd : d < 2 ^ 31) : nI a / nI d = nI (a / d) := by
  apply Int32.toInt_inj.mp
  rw [lg_idiv_nonneg (by rw [nI_toInt ha]; omega) (by rw [nI_toInt hd]; omega), nI_toInt ha, nI_toInt hd, nI_toInt (Nat.lt_of_le_of_lt (Nat.div_le_self a d) ha)]
  first | rfl | exact (Int.natCast_ediv _ _).symm
theorem pk_rem {a d : Nat} (ha : a < 2 ^ 31) (h0 : 0 < d) (hd : d < 2 ^ 31) : nI a - nI a / nI d * nI d = nI (a % d) := by
  rw [pk_div ha h0 hd, pk_mul, pk_sub (Nat.div_mul_le_self a d)]
  exact congrArg nI (by have := Nat.div_add_mod' a d; omega)
theorem pk_tn {n : Nat} (h : n < 2 ^ 32) : (nI n).toBitVec.toNat = n := Nat.mod_eq_of_lt h
theorem pk_and (x : Int32) {m : Int32} (k : Nat) (hm : m.toBitVec.toNat = 2 ^ k - 1) : x &&& m = nI (x.toBitVec.toNat % 2 ^ k) := by
  apply Int32.toBitVec_inj.mp
  apply BitVec.eq_of_toNat_eq
  rw [Int32.toBitVec_and, BitVec.toNat_and, hm, Nat.and_two_pow_sub_one_eq_mod]
  show _ = (BitVec.ofNat 32 _).toNat
  rw [BitVec.toNat_ofNat]
  exact (Nat.mod_eq_of_lt (Nat.lt_of_le_of_lt (Nat.mod_le _ _) x.toBitVec.isLt)).symm
theorem pk_andE (x : Int32) {m : Int32} (k : Nat) (hm : m.toBitVec.toNat = 2 ^ k - 1) : ∃ j : Nat, j < 2 ^ k ∧ x &&& m = nI j := ⟨_, Nat.mod_lt _ (Nat.two_pow_pos k), pk_and x k hm⟩
theorem pk_shr (a s : Int32) (k : Nat) (hs : (s.toBitVec.smod 32).toNat = k) : (a >>> s).toInt = a.toInt >>> k := by
  show (a.toBitVec.sshiftRight (s.toBitVec.smod 32).toNat).toInt = _
  rw [hs, BitVec.toInt_sshiftRight]
  rfl
theorem pk_shrN {n : Nat} (h : n < 2 ^ 31) (s : Int32) (k : Nat) (hs : (s.toBitVec.smod 32).toNat = k) : nI n >>> s = nI (n / 2 ^ k) := by
  apply Int32.toInt_inj.mp
  have h2 : n / 2 ^ k ≤ n := Nat.div_le_self _ _
  rw [pk_shr _ _ k hs, nI_toInt h, nI_toInt (by omega), Int.shiftRight_eq_div_pow]
  rfl
theorem pk_ushr (x s : Int32) (k : Nat) (hs : ((s.toUInt32 &&& Int32.toUInt32 31).toBitVec % 32).toNat = k) : (x.toUInt32 >>> (s.toUInt32 &&& Int32.toUInt32 31)).toInt32.toBitVec.toNat = x.toBitVec.toNat / 2 ^ k := by
  have e : (x.toUInt32 >>> (s.toUInt32 &&& Int32.toUInt32 31)).toInt32.toBitVec = x.toBitVec >>> k := by
    rw [← hs]
    exact UInt32.toBitVec_shiftRight _ _
  rw [e, BitVec.toNat_ushiftRight, Nat.shiftRight_eq_div_pow]
theorem pk_ushrN {n : Nat} (hn : n < 2 ^ 32) (s : Int32) (k : Nat) (hs : ((s.toUInt32 &&& Int32.toUInt32 31).toBitVec % 32).toNat = k) : ((nI n).toUInt32 >>> (s.toUInt32 &&& Int32.toUInt32 31)).toInt32 = nI (n / 2 ^ k) := by
  apply Int32.toBitVec_inj.mp
  apply BitVec.eq_of_toNat_eq
  rw [pk_ushr _ s k hs, pk_tn hn, pk_tn (Nat.lt_of_le_of_lt (Nat.div_le_self _ _) hn)]
theorem pk_vs (z : Int32) : vp_nar .short z.toInt16.toInt32 = z.toInt16.toInt32 := by rw [vp_nar_short]; simp
end
section
/-! BizDays: literals, the weekend bit, the short's store, and one step of each walk with a general post -/
theorem bd_7 : (7 : Int32) = nI 7 := by decide +kernel
theorem bd_365 : (365 : Int32) = nI 365 := by decide +kernel
theorem bd_n7 : ¬ (7 : Int32) = 0 := by decide
theorem bd_00 : nI 0 ≤ 0 := by decide +kernel
theorem bd_bool : vp_nar .boolean 1 = 1 := rfl
theorem bd_z {a : Nat} (h : a < 2 ^ 31) : nI a = 0 ↔ a = 0 :=
  ⟨fun z => Nat.eq_zero_of_not_pos fun p => nI_ne0 p h z, fun z => by rw [z, nI_0]⟩
theorem bd_le {j : Nat} (h : j ≤ 365) : nI j ≤ 365 := by rw [bd_365]; exact nI_le h (by decide)
theorem bd_nle {j : Nat} (h : 365 < j) (hj : j < 2 ^ 31) : ¬ nI j ≤ 365 := by rw [bd_365]; exact nI_ge h hj
theorem bd_lt {j : Nat} (h : 365 < j) (hj : j < 2 ^ 31) : 365 < nI j := by rw [bd_365]; exact nI_lt h hj
theorem bd_nlt {j : Nat} (h : j ≤ 365) : ¬ 365 < nI j := by rw [bd_365]; exact nI_nlt h (by decide)
theorem bd_rem {j : Nat} (hj : j < 2 ^ 31) : nI j - nI j / 7 * 7 = nI (j % 7) := by
  rw [bd_7]; exact pk_rem hj (by decide) (by decide)
theorem bd_ms : ∀ w : Nat, w < 7 → ((nI w &&& 31).toBitVec.smod 32).toNat = w := by decide +kernel
theorem bd_mu : ∀ w : Nat, w < 7 → (((nI w).toUInt32 &&& Int32.toUInt32 31).toBitVec % 32).toNat = w := by decide +kernel
/-- the component's unsigned shift of the mask -/
theorem bd_sX {m j : Nat} (hm : m < 128) (hj : j < 2 ^ 31) : ((nI m).toUInt32 >>> ((nI j - nI j / 7 * 7).toUInt32 &&& Int32.toUInt32 31)).toInt32 = nI (m / 2 ^ (j % 7)) := by
  rw [bd_rem hj]
  exact pk_ushrN (by omega) _ _ (bd_mu _ (Nat.mod_lt _ (by decide)))
/-- the reference's signed shift of the mask: the same -/
theorem bd_sY {m j : Nat} (hm : m < 128) (hj : j < 2 ^ 31) : nI m >>> ((nI j - nI j / 7 * 7) &&& 31) = nI (m / 2 ^ (j % 7)) := by
  rw [bd_rem hj]
  exact pk_shrN (by omega) _ _ (bd_ms _ (Nat.mod_lt _ (by decide)))
theorem bd_nar {a : Nat} (h : a + 1 < 32768) : vp_nar .short ((nI a + 1).toInt16.toInt32) = nI (a + 1) := by
  have e : (nI (a + 1)).toInt = ((a + 1 : Nat) : Int) := nI_toInt (by omega)
  rw [pk_vs, nI_1]
  exact lg_i2s_small (by rw [e]; omega) (by rw [e]; omega)
/-- the reference's counts with one more mark of day j -/
def bd_up (g : Nat → Nat) (j i : Nat) : Nat := if i = j then g j + 1 else g i
theorem bd_ue (g : Nat → Nat) (j : Nat) : upd (fun i => nI (g i)) j (nI (g j + 1)) = fun i => nI (bd_up g j i) := by
  funext i
  unfold upd bd_up
  by_cases h : i = j
  · rw [if_pos h, if_pos h]
  · rw [if_neg h, if_neg h]
theorem bd_us (g : Nat → Nat) (j : Nat) : bd_up g j j = g j + 1 := if_pos rfl
theorem bd_un (g : Nat → Nat) {i j : Nat} (h : ¬ i = j) : bd_up g j i = g i := if_neg h
theorem bd_xO {post : Int32 → Prop} {m : Nat} {c : Int32} {h : Nat → Int32} {j : Nat} (hm : m < 128) (hj : j ≤ 365) (hT : (nI (m / 2 ^ (j % 7)) &&& 1) = 0 → h j = 0 → post 1) (hF : ¬ ((nI (m / 2 ^ (j % 7)) &&& 1) = 0 ∧ h j = 0) → post 0) : wpX_isOpen post (nI m, c, h) (nI j) := by
  have hi : vp_in (nI j) 366 := vp_in_nI (by omega) (by decide)
  unfold wpX_isOpen
  dsimp only
  rw [nI_clamp (n := j) (by omega)]
  refine br_f (nI_pos (by omega)) (br_t (bd_le hj) ⟨bd_n7, fun x ex => ?_⟩)
  subst ex
  rw [bd_sX (j := j) hm (by omega)]
  exact br_c (fun ho => ⟨hi, br_c (fun z => hT ho z) (fun z => hF fun y => z y.2)⟩) (fun ho => hF fun y => ho y.1)
theorem bd_yO {post : Int32 → Prop} {m : Nat} {c : Int32} {g : Nat → Nat} {j : Nat} (hm : m < 128) (hj : j ≤ 365) (hg : g j < 2 ^ 31) (hT : (nI (m / 2 ^ (j % 7)) &&& 1) = 0 → g j = 0 → post 1) (hF : ¬ ((nI (m / 2 ^ (j % 7)) &&& 1) = 0 ∧ g j = 0) → post 0) : wpY_isOpen post (nI m, c, fun i => nI (g i)) (nI j) := by
  have hi : vp_in (nI j) 366 := vp_in_nI (by omega) (by decide)
  unfold wpY_isOpen
  dsimp only
  rw [nI_clamp (n := j) (by omega), bd_sY (j := j) hm (by omega)]
  exact br_f (nI_pos (by omega)) (br_t (bd_le hj) ⟨bd_n7, br_c (fun ho => ⟨hi, br_c (fun z => hT ho ((bd_z hg).mp z)) (fun z => hF fun y => z ((bd_z hg).mpr y.2))⟩) (fun ho => hF fun y => ho y.1)⟩)
theorem bd_xM {post : Int32 → SX → Prop} {m : Nat} {c : Int32} {h : Nat → Int32} {j : Nat} (hj : j ≤ 365) (hT : h j = 0 → post 1 (nI m, c + 1, upd h j 1)) (hF : ¬ h j = 0 → post 0 (nI m, c, h)) : wpX_markHoliday post (nI m, c, h) (nI j) := by
  have hi : vp_in (nI j) 366 := vp_in_nI (by omega) (by decide)
  unfold wpX_markHoliday
  dsimp only
  rw [nI_clamp (n := j) (by omega), bd_bool]
  refine br_f (nI_pos (by omega)) (br_t (bd_le hj) ⟨hi, br_c (fun z => ⟨hi, fun a ea b eb => ?_⟩) hF⟩)
  subst ea eb
  exact hT z
theorem bd_yM {post : Int32 → SY → Prop} {m : Nat} {c : Int32} {g : Nat → Nat} {j : Nat} (hj : j ≤ 365) (hg : g j + 1 < 32768) (hT : g j = 0 → post 1 (nI m, c + 1, fun i => nI (bd_up g j i))) (hF : ¬ g j = 0 → post 0 (nI m, c, fun i => nI (bd_up g j i))) : wpY_markHoliday post (nI m, c, fun i => nI (g i)) (nI j) := by
  have hi : vp_in (nI j) 366 := vp_in_nI (by omega) (by decide)
  have hz := bd_z (a := g j) (by omega)
  unfold wpY_markHoliday
  dsimp only
  rw [nI_clamp (n := j) (by omega), bd_nar hg, bd_ue]
  refine br_f (nI_pos (by omega)) (br_t (bd_le hj) ⟨hi, hi, fun a ea => ?_⟩)
  subst ea
  refine br_c (fun z b eb => ?_) (fun z => hF fun y => z (hz.mpr y))
  subst eb
  exact hT (hz.mp z)
theorem bd_xS {post : Int32 → Prop} {N m : Nat} {c : Int32} {h : Nat → Int32} {n s j : Nat} (hm : m < 128) (hN : N < 2 ^ 31) (hs : s + 1 < 2 ^ 31) (hj : j ≤ 365) (hT : (nI (m / 2 ^ (j % 7)) &&& 1) = 0 → h j = 0 → (s + 1 = N → post (nI j)) ∧ (¬ s + 1 = N → wX_addOpen_31 post (nI N) (nI m) c h n (nI (s + 1)) (nI (j + 1)))) (hF : ¬ ((nI (m / 2 ^ (j % 7)) &&& 1) = 0 ∧ h j = 0) → wX_addOpen_31 post (nI N) (nI m) c h n (nI s) (nI (j + 1))) : wX_addOpen_31 post (nI N) (nI m) c h (n + 1) (nI s) (nI j) := by
  have hi : vp_in (nI j) 366 := vp_in_nI (by omega) (by decide)
  rw [wX_addOpen_31]
  dsimp only
  rw [nI_clamp (n := j) (by omega), bd_sX (j := j) hm (by omega)]
  exact br_f (bd_nlt hj) ⟨bd_n7, br_c (fun ho => ⟨hi, br_c (fun z => nm_r (nI_1 s) (br_c (fun q => (hT ho z).1 ((nI_eq hs hN).mp q)) (fun q => nm_r (nI_1 j) ((hT ho z).2 fun y => q ((nI_eq hs hN).mpr y))))) (fun z => nm_r (nI_1 j) (hF fun y => z y.2))⟩) (fun ho => nm_r (nI_1 j) (hF fun y => ho y.1))⟩
theorem bd_yE {post : Int32 → Prop} {m : Nat} {c : Int32} {a : Nat → Int32} {n d : Nat} (hp : post (nI d)) : wY_addOpen_23 post (nI m) c a (n + 1) (nI d) (nI 0) := by
  rw [wY_addOpen_23]
  exact br_t bd_00 hp
theorem bd_yS {post : Int32 → Prop} {m : Nat} {c : Int32} {g : Nat → Nat} {n d l : Nat} (hm : m < 128) (hj : d + 1 ≤ 365) (hg : g (d + 1) < 2 ^ 31) (hl : l + 1 < 2 ^ 31) (hT : (nI (m / 2 ^ ((d + 1) % 7)) &&& 1) = 0 → g (d + 1) = 0 → wY_addOpen_23 post (nI m) c (fun i => nI (g i)) n (nI (d + 1)) (nI l)) (hF : ¬ ((nI (m / 2 ^ ((d + 1) % 7)) &&& 1) = 0 ∧ g (d + 1) = 0) → wY_addOpen_23 post (nI m) c (fun i => nI (g i)) n (nI (d + 1)) (nI (l + 1))) : wY_addOpen_23 post (nI m) c (fun i => nI (g i)) (n + 1) (nI d) (nI (l + 1)) := by
  rw [wY_addOpen_23]
  refine br_f (nI_nle (by omega) hl) (nm_r (nI_1 d) (br_t (bd_le hj) (bd_yO hm hj hg (fun ho z => ?_) (fun hn => ?_))))
  · exact br_f (by decide) (nm_r (pk_m1 l) (hT ho z))
  · exact br_t rfl (hF hn)
/-- both scans from day d, s open days seen of N, in lockstep: one answer -/
theorem bd_scan {m N : Nat} {c : Int32} {h : Nat → Int32} {g : Nat → Nat} (hm : m < 128) (hN : N < 2 ^ 31) (hg : ∀ j, g j < 2 ^ 31 ∧ (h j = 0 ↔ g j = 0)) : ∀ e d s : Nat, d + e = 365 → s < N → ∃ r : Int32, (∀ post : Int32 → Prop, post r → wX_addOpen_31 post (nI N) (nI m) c h (e + 1) (nI s) (nI (d + 1))) ∧ (∀ post : Int32 → Prop, post r → wY_addOpen_23 post (nI m) c (fun i => nI (g i)) (e + 2) (nI d) (nI (N - s))) := by
  intro e
  induction e with
  | zero =>
    intro d s hd hs
    have h1 : d + 1 = 366 := by omega
    refine ⟨-1, fun post hp => ?_, fun post hp => ?_⟩
    · rw [wX_addOpen_31]
      exact br_t (bd_lt (by omega) (by omega)) hp
    · rw [wY_addOpen_23]
      exact br_f (nI_nle (by omega) (by omega)) (nm_r (nI_1 d) (br_f (bd_nle (by omega) (by omega)) hp))
  | succ e ih =>
    intro d s hd hs
    have hj : d + 1 ≤ 365 := by omega
    have hs1 : s + 1 < 2 ^ 31 := by omega
    obtain ⟨l, hl⟩ : ∃ l, N - s = l + 1 := ⟨N - s - 1, by omega⟩
    have hl1 : l + 1 < 2 ^ 31 := by omega
    rw [hl]
    by_cases ho : (nI (m / 2 ^ ((d + 1) % 7)) &&& 1) = 0 ∧ g (d + 1) = 0
    · by_cases hq : s + 1 = N
      · have h0 : l = 0 := by omega
        subst h0
        exact ⟨nI (d + 1), fun post hp => bd_xS hm hN hs1 hj (fun _ _ => ⟨fun _ => hp, fun q => absurd hq q⟩) (fun hn => absurd ⟨ho.1, (hg _).2.mpr ho.2⟩ hn), fun post hp => bd_yS hm hj (hg _).1 hl1 (fun _ _ => bd_yE hp) (fun hn => absurd ho hn)⟩
      · obtain ⟨r, hX, hY⟩ := ih (d + 1) (s + 1) (by omega) (by omega)
        have hl2 : N - (s + 1) = l := by omega
        rw [hl2] at hY
        exact ⟨r, fun post hp => bd_xS hm hN hs1 hj (fun _ _ => ⟨fun q => absurd q hq, fun _ => hX post hp⟩) (fun hn => absurd ⟨ho.1, (hg _).2.mpr ho.2⟩ hn), fun post hp => bd_yS hm hj (hg _).1 hl1 (fun _ _ => hY post hp) (fun hn => absurd ho hn)⟩
    · obtain ⟨r, hX, hY⟩ := ih (d + 1) s (by omega) hs
      rw [hl] at hY
      exact ⟨r, fun post hp => bd_xS hm hN hs1 hj (fun hb hz => absurd ⟨hb, (hg _).2.mp hz⟩ ho) (fun _ => hX post hp), fun post hp => bd_yS hm hj (hg _).1 hl1 (fun hb hz => absurd ⟨hb, hz⟩ ho) (fun _ => hY post hp)⟩
end
section
/-- one mask below 128, one count; a day is a holiday of the component if and only if the reference has counted a mark of it; a day's marks are at most the turn's first cell -/
def i_Rel (k : Nat) (u : SX) (v : SY) : Prop := ∃ (m : Nat) (c : Int32) (h : Nat → Int32) (g : Nat → Nat), u = (nI m, c, h) ∧ v = (nI m, c, fun i => nI (g i)) ∧ m < 128 ∧ ∀ j, g j ≤ k ∧ (h j = 0 ↔ g j = 0)
theorem i_up {k : Nat} {u : SX} {v : SY} (h : i_Rel k u v) : i_Rel (k + 3) u v := by
  obtain ⟨m, c, h, g, hu, hv, hm, hg⟩ := h
  exact ⟨m, c, h, g, hu, hv, hm, fun j => ⟨Nat.le_trans (hg j).1 (by omega), (hg j).2⟩⟩
theorem i_vc0 (k0 : Int32) : wpX_init (fun u => wpY_init (fun v => i_Rel 1 u v) k0) k0 := by
  obtain ⟨m, hm, e⟩ := pk_andE k0 (m := 127) 7 (by decide)
  intro x ex y ey
  have ex' : x = nI m := ex.trans e
  have ey' : y = nI m := ey.trans e
  subst ex'
  subst ey'
  refine ⟨m, 0, fun _ => 0, fun _ => 0, rfl, ?_, by omega, fun j => ⟨Nat.zero_le 1, fun _ => rfl, fun _ => rfl⟩⟩
  show (nI m, (0 : Int32), fun (_ : Nat) => (0 : Int32)) = (nI m, 0, fun _ => nI 0)
  rw [nI_0]
theorem i_vc_markHoliday {k : Nat} {u : SX} {v : SY} (I : i_Rel k u v) (hk : k + 3 ≤ 1537) (v1 : Int32) : wpX_markHoliday (fun r u' => wpY_markHoliday (fun r' v' => r' = r ∧ i_Rel (k + 3) u' v') v v1) u v1 := by
  have I' := i_up I
  obtain ⟨m, c, h, g, rfl, rfl, hm, hg⟩ := I
  by_cases h0 : v1 < 0
  · exact br_t h0 (br_t h0 ⟨rfl, I'⟩)
  · obtain ⟨j, hj, rfl⟩ := nI_of h0
    by_cases h1 : j ≤ 365
    · have hgj := (hg j).1
      have hgs : g j + 1 < 32768 := by omega
      refine bd_xM h1 (fun z => bd_yM h1 hgs (fun _ => ⟨rfl, m, c + 1, _, _, rfl, rfl, hm, fun i => ?_⟩) (fun y => absurd ((hg j).2.mp z) y)) (fun z => bd_yM h1 hgs (fun y => absurd ((hg j).2.mpr y) z) (fun _ => ⟨rfl, m, c, _, _, rfl, rfl, hm, fun i => ?_⟩))
      · by_cases hi : i = j
        · subst hi
          rw [bd_us]
          refine ⟨by omega, fun q => absurd q ?_, fun q => absurd q (by omega)⟩
          show ¬ (if i = i then (1 : Int32) else h i) = 0
          rw [if_pos rfl]
          decide
        · rw [bd_un g hi]
          have e : upd h j 1 i = h i := if_neg hi
          rw [e]
          exact ⟨Nat.le_trans (hg i).1 (by omega), (hg i).2⟩
      · by_cases hi : i = j
        · subst hi
          rw [bd_us]
          exact ⟨by omega, fun q => absurd q z, fun q => absurd q (by omega)⟩
        · rw [bd_un g hi]
          exact ⟨Nat.le_trans (hg i).1 (by omega), (hg i).2⟩
    · have h2 : ¬ nI j ≤ 365 := bd_nle (by omega) hj
      exact br_f h0 (br_f h2 (br_f h0 (br_f h2 ⟨rfl, I'⟩)))
theorem i_vc_isOpen {k : Nat} {u : SX} {v : SY} (I : i_Rel k u v) (hk : k + 3 ≤ 1537) (v1 : Int32) : wpX_isOpen (fun r => wpY_isOpen (fun r' => r' = r ∧ i_Rel (k + 3) u v) v v1) u v1 := by
  have I' := i_up I
  obtain ⟨m, c, h, g, rfl, rfl, hm, hg⟩ := I
  by_cases h0 : v1 < 0
  · exact br_t h0 (br_t h0 ⟨rfl, I'⟩)
  · obtain ⟨j, hj, rfl⟩ := nI_of h0
    by_cases h1 : j ≤ 365
    · have hgj := (hg j).1
      have hgs : g j < 2 ^ 31 := by omega
      exact bd_xO hm h1 (fun hb hz => bd_yO hm h1 hgs (fun _ _ => ⟨rfl, I'⟩) (fun hn => absurd ⟨hb, (hg j).2.mp hz⟩ hn)) (fun hn => bd_yO hm h1 hgs (fun hb hz => absurd ⟨hb, (hg j).2.mpr hz⟩ hn) (fun _ => ⟨rfl, I'⟩))
    · have h2 : ¬ nI j ≤ 365 := bd_nle (by omega) hj
      exact br_f h0 (br_f h2 (br_f h0 (br_f h2 ⟨rfl, I'⟩)))
theorem i_vc_addOpen {k : Nat} {u : SX} {v : SY} (I : i_Rel k u v) (hk : k + 3 ≤ 1537) (v1 : Int32) (v2 : Int32) : wpX_addOpen (fun r => wpY_addOpen (fun r' => r' = r ∧ i_Rel (k + 3) u v) v v1 v2) u v1 v2 := by
  have I' := i_up I
  obtain ⟨m, c, h, g, rfl, rfl, hm, hg⟩ := I
  have hg' : ∀ j, g j < 2 ^ 31 ∧ (h j = 0 ↔ g j = 0) := fun j => ⟨by have := (hg j).1; omega, (hg j).2⟩
  by_cases h0 : v1 < 0
  · exact br_t h0 (br_t h0 ⟨rfl, I'⟩)
  · obtain ⟨d, hd, rfl⟩ := nI_of h0
    by_cases h1 : d ≤ 365
    · have hb : ¬ 365 < nI d := bd_nlt h1
      by_cases h2 : v2 < 0
      · have h3 : ¬ 0 ≤ v2 := Int32.not_le.mpr h2
        exact br_f h0 (br_f hb (br_f h3 (br_f h0 (br_f hb (br_f h3 ⟨rfl, I'⟩)))))
      · obtain ⟨N, hN, rfl⟩ := nI_of h2
        have h3 : 0 ≤ nI N := nI_pos' hN
        by_cases hz : N = 0
        · subst hz
          exact br_f h0 (br_f hb (br_t h3 (br_t nI_0 (br_f h0 (br_f hb (br_t h3 ⟨1, bd_yE ⟨rfl, I'⟩⟩))))))
        · obtain ⟨r, hX, hY⟩ := bd_scan (c := c) hm hN hg' (365 - d) d 0 (by omega) (by omega)
          rw [nI_0] at hX
          rw [Nat.sub_zero] at hY
          exact br_f h0 (br_f hb (br_t h3 (br_f (nI_ne0 (by omega) hN) (nm_r (nI_1 d) ⟨_, hX _ (br_f h0 (br_f hb (br_t h3 ⟨_, hY _ ⟨rfl, I'⟩⟩)))⟩))))
    · have h2 : 365 < nI d := bd_lt (by omega) hd
      exact br_f h0 (br_t h2 (br_f h0 (br_t h2 ⟨rfl, I'⟩)))
theorem i_vc_holidays {k : Nat} {u : SX} {v : SY} (I : i_Rel k u v) (hk : k + 3 ≤ 1537) : wpX_holidays (fun r => wpY_holidays (fun r' => r' = r ∧ i_Rel (k + 3) u v) v) u := by
  have I' := i_up I
  obtain ⟨m, c, h, g, rfl, rfl, hm, hg⟩ := I
  exact And.intro rfl I'
end
