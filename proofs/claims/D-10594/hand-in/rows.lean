section
/-! plain numbers: masks, the cut of an address, who lies in a block -/
theorem zq_and (a b : Nat) : nI a &&& nI b = nI (a &&& b) := by
  apply Int32.toBitVec_inj.1
  show BitVec.ofNat 32 a &&& BitVec.ofNat 32 b = BitVec.ofNat 32 (a &&& b)
  apply BitVec.eq_of_getLsbD_eq
  intro i hi
  simp [hi]
theorem zq_mod (k : Nat) : nI k &&& 65535 = nI (k % 65536) := by
  show nI k &&& nI 65535 = _
  rw [zq_and, show (65535 : Nat) = 2 ^ 16 - 1 from rfl, Nat.and_two_pow_sub_one_eq_mod]
theorem zq_m16 {k : Nat} (h : k < 65536) : nI k &&& 65535 = nI k := by rw [zq_mod, Nat.mod_eq_of_lt h]
theorem zq_mask (x : Int32) : ∃ k, k < 65536 ∧ x &&& 65535 = nI k := by
  have e : x = nI x.toBitVec.toNat := by
    apply Int32.toBitVec_inj.1
    show x.toBitVec = BitVec.ofNat 32 x.toBitVec.toNat
    simp
  refine ⟨x.toBitVec.toNat % 65536, Nat.mod_lt _ (by omega), ?_⟩
  rw [← zq_mod, ← e]
theorem zq_sl : ∀ n, n < 32 → ((nI n &&& 31).toBitVec.smod 32).toNat = n := by decide +kernel
theorem zq_bits {a s : Nat} (ha : a < 65536) : (a &&& (65535 * 2 ^ s)) % 65536 = a / 2 ^ s * 2 ^ s := by
  apply Nat.eq_of_testBit_eq
  intro i
  have hb : ∀ j, Nat.testBit 65535 j = decide (j < 16) := fun j => Nat.testBit_two_pow_sub_one 16 j
  have hm : ∀ x : Nat, (x % 65536).testBit i = (decide (i < 16) && x.testBit i) := fun x => Nat.testBit_mod_two_pow x 16 i
  rw [hm, Nat.testBit_and, Nat.testBit_mul_two_pow, Nat.testBit_mul_two_pow, Nat.testBit_div_two_pow, hb]
  by_cases h : i < 16
  · by_cases h2 : s ≤ i
    · rw [show i - s + s = i by omega]
      have h3 : i - s < 16 := by omega
      simp [h, h2, h3]
    · simp [h2]
  · have hz : a.testBit i = false := by
      apply Nat.testBit_lt_two_pow
      have : 2 ^ 16 ≤ 2 ^ i := Nat.pow_le_pow_right (by omega) (by omega)
      omega
    by_cases h2 : s ≤ i
    · rw [show i - s + s = i by omega]
      simp [h, hz]
    · simp [h, h2]
/-- the block's size for a prefix of l bits -/
def zq_Z (l : Nat) : Nat := 2 ^ (16 - l)
/-- the block's start for the address a -/
def zq_T (a l : Nat) : Nat := a / zq_Z l * zq_Z l
theorem zq_Zpos (l : Nat) : 0 < zq_Z l := Nat.pow_pos (by omega)
theorem zq_Zle (l : Nat) : zq_Z l ≤ 65536 := by
  have : 2 ^ (16 - l) ≤ 2 ^ 16 := Nat.pow_le_pow_right (by omega) (by omega)
  exact this
theorem zq_Zmul {l : Nat} (h : l ≤ 16) : 2 ^ l * zq_Z l = 65536 := by
  unfold zq_Z
  rw [← Nat.pow_add, show l + (16 - l) = 16 by omega]
theorem zq_Tle (a l : Nat) : zq_T a l ≤ a := Nat.div_mul_le_self a (zq_Z l)
theorem zq_TT (a l : Nat) : zq_T (zq_T a l) l = zq_T a l := by
  unfold zq_T
  rw [Nat.mul_div_cancel _ (zq_Zpos l)]
theorem zq_end {a l : Nat} (ha : a < 65536) (h : l ≤ 16) : zq_T a l + zq_Z l ≤ 65536 := by
  have e := zq_Zmul h
  have p := zq_Zpos l
  have h1 : a / zq_Z l < 2 ^ l := by
    rw [Nat.div_lt_iff_lt_mul p, e]
    exact ha
  have h2 : (a / zq_Z l + 1) * zq_Z l ≤ 2 ^ l * zq_Z l := Nat.mul_le_mul_right _ h1
  rw [e, Nat.add_mul, Nat.one_mul] at h2
  exact h2
theorem zq_same (a b l : Nat) : zq_T b l = zq_T a l ↔ zq_T a l ≤ b ∧ b < zq_T a l + zq_Z l := by
  have p := zq_Zpos l
  have eb := Nat.div_add_mod b (zq_Z l)
  have lb := Nat.mod_lt b p
  unfold zq_T
  rw [Nat.mul_comm] at eb
  constructor
  · intro e
    rw [← e]
    omega
  · intro ⟨h1, h2⟩
    have e : b / zq_Z l = a / zq_Z l := by
      apply Nat.le_antisymm
      · apply Nat.le_of_lt_succ
        rw [Nat.div_lt_iff_lt_mul p, Nat.succ_mul]
        exact h2
      · rw [Nat.le_div_iff_mul_le p]
        exact h1
    rw [e]
theorem zq_cut {a l : Nat} (ha : a < 65536) (h : l ≤ 16) : (nI a &&& ((65535 : Int32) <<< ((16 - nI l) &&& 31))) &&& 65535 = nI (zq_T a l) := by
  have e1 : (16 : Int32) - nI l = nI (16 - l) := pk_sub (a := 16) h
  have hs : 2 ^ (16 - l) ≤ 2 ^ 16 := Nat.pow_le_pow_right (by omega) (by omega)
  have e2 : (65535 : Int32) <<< (nI (16 - l) &&& 31) = nI (65535 * 2 ^ (16 - l)) := pk_shlN (n := 65535) _ (16 - l) (zq_sl (16 - l) (by omega)) (by omega)
  rw [e1, e2, zq_and, zq_mod, zq_bits ha]
  rfl
theorem zq_size {l : Nat} (h : l ≤ 16) : (65536 : Int32) >>> (nI l &&& 31) = nI (zq_Z l) := by
  have e : (65536 : Int32) >>> (nI l &&& 31) = nI (65536 / 2 ^ l) := pk_shrN (n := 65536) (by omega) _ l (zq_sl l (by omega))
  rw [e, ← zq_Zmul h, Nat.mul_div_cancel_left _ (Nat.pow_pos (by omega))]
theorem zq_start {a l : Nat} (ha : a < 65536) : nI a / nI (zq_Z l) * nI (zq_Z l) = nI (zq_T a l) := by
  have p := zq_Zpos l
  have q := zq_Zle l
  rw [pk_div (by omega) p (by omega), pk_mul]
  rfl
theorem zq_one (x : Int32) : x &&& 1 = nI 0 ∨ x &&& 1 = nI 1 := by
  obtain ⟨j, hj, e⟩ := pk_andE x (m := 1) 1 (by decide)
  have : j = 0 ∨ j = 1 := by omega
  rcases this with rfl | rfl
  · exact Or.inl e
  · exact Or.inr e
end
section
/-! the methods, each once: over the empty tree (root -1), and over the tree of one held node, node 0 -/
section
variable {f0 f1 f2 f3 f4 : Int32} {a1 a2 a3 a4 a5 a6 a7 a8 a9 : Nat → Int32}
theorem zq_c0 : ((2 * 0 : Int32) + nI 0).toNatClampNeg = 0 := by decide
theorem zq_c1 : ((2 * 0 : Int32) + nI 1).toNatClampNeg = 1 := by decide
theorem zq_d0 : (2 * 0 : Int32).toNatClampNeg = 0 := by decide
theorem zq_d1 : ((2 * 0 : Int32) + 1).toNatClampNeg = 1 := by decide
theorem zq_i0 : vp_in (0 : Int32) 64 := pk_in 0 64 (by omega)
theorem zq_j0 : vp_in (2 * 0 : Int32) 128 := pk_in 0 128 (by omega) (by decide)
theorem zq_j1 : vp_in ((2 * 0 : Int32) + 1) 128 := pk_in 1 128 (by omega) (by decide)
theorem zq_k0 : vp_in ((2 * 0 : Int32) + nI 0) 128 := pk_in 0 128 (by omega) (by decide)
theorem zq_k1 : vp_in ((2 * 0 : Int32) + nI 1) 128 := pk_in 1 128 (by omega) (by decide)
theorem zq_at0 {a : Nat → Int32} {x : Int32} (h : a 0 = x) : a (0 : Int32).toNatClampNeg = x := by rw [sb_cl0]; exact h

theorem zq_init {post : St2 → Prop} {mc ms : Nat} (hc : 9 ≤ mc) (hs : 585 ≤ ms) (H : ∀ c : Nat → Int32, post (0, -1, 0, 0, 0, (fun _ => 0), (fun _ => 0), (fun _ => 0), (fun _ => 0), c, (fun _ => 0), (fun _ => 0), (fun _ => 0), (fun _ => 0))) : wpX_init post mc ms (0, 0, 0, 0, 0) := by
  refine ⟨by omega, by omega, by omega, by omega, by omega, by omega, by omega, by omega, by omega, by omega, by omega, by omega, by omega, by omega, by omega, by omega, by omega, by omega, ?_⟩
  exact pk_loop (fun n i s => wX_init_79 post mc ms 9 585 0 0 0 0 0 n (nI i) (fun _ => 0) (fun _ => 0) (fun _ => 0) (fun _ => 0) s (fun _ => 0) (fun _ => 0) (fun _ => 0) (fun _ => 0)) (fun _ _ => True) 64 0 (fun _ => 0) (by omega) trivial
    (fun n s _ => pk_le 64 64 (fun _ => H s) (fun z => absurd z (by omega)))
    (fun n i s hi _ hw => pk_le 64 i (fun z => absurd z (by omega)) (fun _ => pk_eq i 63 (fun z => ⟨pk_in (2 * i) 128 (by omega) (pk_mul 2 i), nm_e (nm_r (nI_1 i) (hw _ trivial))⟩) (fun z => ⟨pk_in (2 * i) 128 (by omega) (pk_mul 2 i), nm_e (nm_r (nI_1 i) (hw _ trivial))⟩)))

theorem zq_wcut {post : Int32 → Prop} {x y : Int32} {a l : Nat} (ha : a < 65536) (hl : l ≤ 16) (hx : x = nI a) (hy : y = nI l) (H : post (nI (zq_T a l))) : wpX_cut post () x y := by
  subst hx hy
  unfold wpX_cut
  rw [zq_cut ha hl]
  exact H
theorem zq_bit {post : Int32 → Prop} {x y : Int32} (h0 : post (nI 0)) (h1 : post (nI 1)) : wpX_bitAt post () x y := by
  show post (((x.toUInt32 >>> ((15 - y).toUInt32 &&& Int32.toUInt32 31)).toInt32) &&& 1)
  rcases zq_one ((x.toUInt32 >>> ((15 - y).toUInt32 &&& Int32.toUInt32 31)).toInt32) with e | e
  · rw [e]; exact h0
  · rw [e]; exact h1
theorem zq_cov {post : Int32 → Prop} {x : Int32} {T l a : Nat} (ha : a < 65536) (hl : l ≤ 16) (hT : T < 65536) (hx : x = nI a) (h2 : a2 0 = nI T) (h3 : a3 0 = nI l) (Hin : zq_T a l = T → post 1) (Hout : zq_T a l ≠ T → post 0) : wpX_covers post (f0, f1, f2, f3, f4, a1, a2, a3, a4, a5, a6, a7, a8, a9) 0 x := by
  have hle := zq_Tle a l
  exact ⟨zq_i0, zq_wcut ha hl hx (zq_at0 h3) ⟨zq_i0, pk_eq (zq_T a l) T Hin Hout rfl (zq_at0 h2) (by omega) (by omega)⟩⟩

theorem zq_set0 {post : Int32 → Prop} {x : Int32} (H : post (-1)) : wpX_settling post (f0, -1, f2, f3, f4, a1, a2, a3, a4, a5, a6, a7, a8, a9) x :=
  ⟨1, br_f (by decide) (br_t (by decide) H)⟩
theorem zq_own0 {post : Int32 → Prop} {x : Int32} (H : post (-1)) : wpX_owner post (f0, -1, f2, f3, f4, a1, a2, a3, a4, a5, a6, a7, a8, a9) x :=
  zq_set0 (br_f (by decide) H)
theorem zq_len0 {post : Int32 → Prop} {x : Int32} (H : post (-1)) : wpX_length post (f0, -1, f2, f3, f4, a1, a2, a3, a4, a5, a6, a7, a8, a9) x :=
  zq_set0 (br_f (by decide) H)
theorem zq_find0 {post : Int32 → St2 → Prop} {x y : Int32} (H : post (-1) (f0, -1, f2, -1, -1, a1, a2, a3, a4, a5, a6, a7, a8, a9)) : wpX_find post (f0, -1, f2, f3, f4, a1, a2, a3, a4, a5, a6, a7, a8, a9) x y :=
  ⟨1, br_f (by decide) (br_t (by decide) H)⟩
theorem zq_all0 {post : St2 → Prop} (H : ∀ s, post (f0, -1, f2, f3, f4, a1, a2, a3, a4, a5, upd s 8 65536, a7, a8, a9)) : wpX_settleAll post (f0, -1, f2, f3, f4, a1, a2, a3, a4, a5, a6, a7, a8, a9) :=
  pk_loop (fun n i s => wX_settleAll_2 post f0 (-1) f2 f3 f4 n (nI i) a1 a2 a3 a4 a5 s a7 a8 a9) (fun _ _ => True) 9 0 a6 (by omega) trivial
    (fun n s _ => pk_le 9 9 (fun _ => nm_e (br_t (by decide) ⟨1, br_f (by decide) (br_t (by decide) (H s))⟩)) (fun z => absurd z (by omega)))
    (fun n i s hi _ hw => pk_le 9 i (fun z => absurd z (by omega)) (fun _ => ⟨pk_in i 9 hi, nm_e (nm_r (nI_1 i) (hw _ trivial))⟩))
theorem zq_owned0 {post : Int32 → St2 → Prop} (H : ∀ s, post 65536 (f0, -1, f2, f3, f4, a1, a2, a3, a4, a5, s, a7, a8, a9)) : wpX_owned post (f0, -1, f2, f3, f4, a1, a2, a3, a4, a5, a6, a7, a8, a9) (-1) :=
  br_f (by decide) (br_t (by decide) (zq_all0 (fun s => br_f (by decide) (H (upd s 8 65536)))))
theorem zq_deny0 {post : Int32 → St2 → Prop} {x y : Int32} (H : ∀ u, post (-1) u) : wpX_deny post (f0, -1, f2, f3, f4, a1, a2, a3, a4, a5, a6, a7, a8, a9) x y :=
  br_c (fun _ => H _) (fun _ => br_c (fun _ => zq_find0 (f3 := f3) (f4 := f4) (br_t (by decide) (H _))) (fun _ => H _))
theorem zq_allow0 {post : Int32 → St2 → Prop} {x y z : Int32} (hno : y < 0 ∨ 16 < y ∨ z < 0 ∨ 7 < z) (H : post (-1) (f0, f1, f2, f3, f4, a1, a2, a3, a4, a5, a6, a7, a8, a9)) : wpX_allow post (f0, f1, f2, f3, f4, a1, a2, a3, a4, a5, a6, a7, a8, a9) x y z :=
  br_c (fun _ => H) (fun h1 => br_c (fun _ => H) (fun h2 => br_c (fun _ => H) (fun h3 => br_f (fun h4 => by
    rcases hno with h | h | h | h
    · exact h1 h
    · exact h2 h
    · exact h3 h
    · exact (Int32.not_le.mpr h) h4) H)))

/-- the tree of one held node: node 0 holds the block at T of l bits, its peer k -/
def zq_K (T l k : Nat) (a1 a2 a3 a4 a5 : Nat → Int32) : Prop := l ≤ 16 ∧ k ≤ 7 ∧ T + zq_Z l ≤ 65536 ∧ zq_T T l = T ∧ a1 0 = 1 ∧ (∀ j, 0 < j → a1 j = 0) ∧ a2 0 = nI T ∧ a3 0 = nI l ∧ a4 0 = nI k ∧ a5 0 = -1 ∧ a5 1 = -1

theorem zq_allow1 {post : Int32 → St2 → Prop} {x : Int32} {A l k : Nat} (hA : A < 65536) (hx : x &&& 65535 = nI A) (hl : l ≤ 16) (hk : k ≤ 7) (H : ∀ f a1 a2 a3 a4 a5, zq_K (zq_T A l) l k a1 a2 a3 a4 a5 → post 1 (1, 0, f, -1, -1, a1, a2, a3, a4, a5, a6, a7, a8, a9)) : wpX_allow post (0, -1, 0, 0, 0, (fun _ => 0), (fun _ => 0), (fun _ => 0), (fun _ => 0), a5, a6, a7, a8, a9) x (nI l) (nI k) := by
  refine br_f (nI_pos (by omega)) (br_f (nI_nlt (b := l) (a := 16) hl (by omega)) (br_f (nI_pos (by omega)) (br_t (nI_le (b := 7) hk (by omega)) (zq_wcut hA hl hx rfl (zq_find0 (br_t (by decide) (br_t (by decide) (nm_r (e' := 1) (by decide) (br_t (by decide) (br_f (by decide) ?_))))))))))
  refine ⟨zq_j0, fun f _ => ⟨zq_i0, nm_e ⟨zq_i0, nm_e ⟨zq_i0, nm_e ⟨zq_i0, nm_e ⟨zq_j0, nm_e ⟨zq_j1, nm_e (br_f (by decide) (br_f (by decide) (H f _ _ _ _ _ ?_)))⟩⟩⟩⟩⟩⟩⟩
  rw [sb_cl0, zq_d0, zq_d1]
  refine ⟨hl, hk, zq_end hA hl, zq_TT A l, pk_us, fun j hj => pk_un (by omega), pk_us, pk_us, pk_us, ?_, pk_us⟩
  rw [pk_un (by omega)]
  exact pk_us
end
end
section
/-! the methods over the tree of one held node -/
section
variable {f0 f1 f2 f3 f4 : Int32} {a1 a2 a3 a4 a5 a6 a7 a8 a9 : Nat → Int32}
theorem zq_set1 {post : Int32 → Prop} {x : Int32} {T l k a : Nat} (K : zq_K T l k a1 a2 a3 a4 a5) (ha : a < 65536) (hx : x = nI a) (Hin : zq_T a l = T → post 0) (Hout : zq_T a l ≠ T → post (-1)) : wpX_settling post (f0, 0, f2, f3, f4, a1, a2, a3, a4, a5, a6, a7, a8, a9) x := by
  obtain ⟨hl, hk, hE, hTT, h10, h1, h2, h3, h4, h50, h51⟩ := K
  have hZ := zq_Zpos l
  have n4 : ¬ a4 (0 : Int32).toNatClampNeg < 0 := by
    rw [zq_at0 h4]
    exact nI_pos (by omega)
  have e0 : a5 ((2 * 0 : Int32) + nI 0).toNatClampNeg = -1 := by rw [zq_c0]; exact h50
  have e1 : a5 ((2 * 0 : Int32) + nI 1).toNatClampNeg = -1 := by rw [zq_c1]; exact h51
  refine ⟨2, br_f (by decide) (br_f (by decide) (zq_cov ha hl (by omega) hx h2 h3 (fun e => ?_) (fun e => br_t rfl (Hout e))))⟩
  have HJ : wX_settling_10 post x f0 0 f2 f3 f4 a1 a2 a3 a4 a5 a6 a7 a8 a9 1 0 (-1) (0 + 1) := br_f (by decide) (br_t (by decide) (Hin e))
  refine br_f (by decide) ⟨zq_i0, br_f n4 ⟨zq_i0, br_c (fun _ => nm_e HJ) (fun _ => ⟨zq_i0, zq_bit ?_ ?_⟩)⟩⟩
  · exact ⟨zq_k0, nm_r e0 (nm_e HJ)⟩
  · exact ⟨zq_k1, nm_r e1 (nm_e HJ)⟩
theorem zq_own1 {post : Int32 → Prop} {x : Int32} {T l k a : Nat} (K : zq_K T l k a1 a2 a3 a4 a5) (ha : a < 65536) (hx : x &&& 65535 = nI a) (Hin : zq_T a l = T → post (nI k)) (Hout : zq_T a l ≠ T → post (-1)) : wpX_owner post (f0, 0, f2, f3, f4, a1, a2, a3, a4, a5, a6, a7, a8, a9) x := by
  have h4 : a4 (0 : Int32).toNatClampNeg = nI k := zq_at0 K.2.2.2.2.2.2.2.2.1
  exact zq_set1 K ha hx (fun e => br_t (by decide) ⟨zq_i0, ek_v h4 (Hin e)⟩) (fun e => br_f (by decide) (Hout e))
theorem zq_len1 {post : Int32 → Prop} {x : Int32} {T l k a : Nat} (K : zq_K T l k a1 a2 a3 a4 a5) (ha : a < 65536) (hx : x &&& 65535 = nI a) (Hin : zq_T a l = T → post (nI l)) (Hout : zq_T a l ≠ T → post (-1)) : wpX_length post (f0, 0, f2, f3, f4, a1, a2, a3, a4, a5, a6, a7, a8, a9) x := by
  have h3 : a3 (0 : Int32).toNatClampNeg = nI l := zq_at0 K.2.2.2.2.2.2.2.1
  exact zq_set1 K ha hx (fun e => br_t (by decide) ⟨zq_i0, ek_v h3 (Hin e)⟩) (fun e => br_f (by decide) (Hout e))

/-- the visit of node 0 -/
theorem zq_vis99 {post : Int32 → St2 → Prop} {x3 x4 : Int32} (h50 : a5 0 = -1) (h51 : a5 1 = -1) (H : post x4 (f0, f1, f2, f3, f4, a1, a2, a3, a4, a5, a6, a7, a8, a9)) : ∃ n, wX_visit_99 post 0 x3 f0 f1 f2 f3 f4 n x4 0 a1 a2 a3 a4 a5 a6 a7 a8 a9 := by
  have e0 : a5 ((2 * 0 : Int32) + 0).toNatClampNeg = -1 := by rw [show ((2 * 0 : Int32) + 0).toNatClampNeg = 0 by decide]; exact h50
  have e1 : a5 ((2 * 0 : Int32) + 1).toNatClampNeg = -1 := by rw [zq_d1]; exact h51
  exact ⟨3, br_f (by decide) ⟨zq_k0, nm_r e0 (br_t (by decide) (nm_r (e' := 1) (by decide) (br_f (by decide) ⟨zq_j1, nm_r e1 (br_t (by decide) (nm_r (e' := 2) (by decide) (br_t (by decide) H)))⟩)))⟩⟩
theorem zq_vis {post : Int32 → St2 → Prop} {y : Int32} {T l k : Nat} (K : zq_K T l k a1 a2 a3 a4 a5) (h8 : a8 0 = -1) (H : ∀ s t, s 8 = a6 8 - nI (zq_Z l) → post y (f0, f1, f2, f3, f4, a1, a2, a3, a4, a5, s, t, a8, a9)) : wpX_visit post (f0, f1, f2, f3, f4, a1, a2, a3, a4, a5, a6, a7, a8, a9) 0 y := by
  obtain ⟨hl, hk, hE, hTT, h10, h1, h2, h3, h4, h50, h51⟩ := K
  have n4 : ¬ a4 (0 : Int32).toNatClampNeg < 0 := by
    rw [zq_at0 h4]
    exact nI_pos (by omega)
  have i4 : vp_in (a4 (0 : Int32).toNatClampNeg) 9 := pk_in k 9 (by omega) (zq_at0 h4)
  have ez : (65536 : Int32) >>> (a3 (0 : Int32).toNatClampNeg &&& 31) = nI (zq_Z l) := by
    rw [zq_at0 h3]
    exact zq_size hl
  have c4 : (a4 (0 : Int32).toNatClampNeg).toNatClampNeg = k := pk_cl k (zq_at0 h4)
  have c8 : (8 : Int32).toNatClampNeg = 8 := by decide
  refine ⟨zq_i0, nm_r (zq_at0 h8) ⟨zq_i0, br_f n4 ⟨zq_i0, nm_r ez ⟨zq_i0, nm_e ⟨zq_i0, i4, i4, nm_e (br_f (by decide) ⟨pk_in 8 9 (by omega), pk_in 8 9 (by omega), nm_e (br_t (by decide) (zq_vis99 h50 h51 (H _ _ ?_)))⟩)⟩⟩⟩⟩⟩
  rw [c8, c4, pk_us, pk_un (by omega)]
theorem zq_all1 {post : St2 → Prop} {T l k : Nat} (K : zq_K T l k a1 a2 a3 a4 a5) (H : ∀ s t u v, s 8 = 65536 - nI (zq_Z l) → post (f0, 0, f2, f3, f4, a1, a2, a3, a4, a5, s, t, u, v)) : wpX_settleAll post (f0, 0, f2, f3, f4, a1, a2, a3, a4, a5, a6, a7, a8, a9) := by
  have e9 : upd a9 0 0 ((1 : Int32) - 1).toNatClampNeg = 0 := by
    rw [show ((1 : Int32) - 1).toNatClampNeg = 0 by decide]
    exact pk_us
  have e8 : upd a8 (0 : Int32).toNatClampNeg (-1) 0 = -1 := by
    rw [sb_cl0]
    exact pk_us
  refine pk_loop (fun n i s => wX_settleAll_2 post f0 0 f2 f3 f4 n (nI i) a1 a2 a3 a4 a5 s a7 a8 a9) (fun _ _ => True) 9 0 a6 (by omega) trivial
    (fun n s _ => pk_le 9 9 (fun _ => nm_e (br_f (by decide) (nm_e ⟨zq_i0, nm_e ⟨2, ?_⟩⟩))) (fun z => absurd z (by omega)))
    (fun n i s hi _ hw => pk_le 9 i (fun z => absurd z (by omega)) (fun _ => ⟨pk_in i 9 hi, nm_e (nm_r (nI_1 i) (hw _ trivial))⟩))
  refine br_f (by decide) (br_f (by decide) ⟨pk_in 0 64 (by omega) (by decide), nm_r e9 (zq_vis K e8 (fun s' t hs => nm_e (br_f (by decide) (br_t (by decide) (H s' t _ _ ?_)))))⟩)
  rw [hs, pk_us]
theorem zq_owned1 {post : Int32 → St2 → Prop} {T l k : Nat} (K : zq_K T l k a1 a2 a3 a4 a5) (H : ∀ s t u v, post (65536 - nI (zq_Z l)) (f0, 0, f2, f3, f4, a1, a2, a3, a4, a5, s, t, u, v)) : wpX_owned post (f0, 0, f2, f3, f4, a1, a2, a3, a4, a5, a6, a7, a8, a9) (-1) :=
  br_f (by decide) (br_t (by decide) (zq_all1 K (fun s t u v hs => br_f (by decide) (ek_v (P := fun r => post r (f0, 0, f2, f3, f4, a1, a2, a3, a4, a5, s, t, u, v)) hs (H s t u v)))))

/-- the edges behind node 0 -/
theorem zq_edgeT {post : Int32 → Prop} {x E : Int32} (h1 : ∀ j, 0 < j → a1 j = 0) (H : post E) : ∃ n, wX_nextEdge_5 post x f0 f1 f2 f3 f4 a1 a2 a3 a4 a5 a6 a7 a8 a9 n E (nI 1) :=
  pk_loop (σ := Unit) (fun n i _ => wX_nextEdge_5 post x f0 f1 f2 f3 f4 a1 a2 a3 a4 a5 a6 a7 a8 a9 n E (nI i)) (fun i _ => 1 ≤ i) 64 1 () (by omega) (by omega)
    (fun n _ _ => pk_le 64 64 (fun _ => H) (fun z => absurd z (by omega)))
    (fun n i _ hi hp hw => pk_le 64 i (fun z => absurd z (by omega)) (fun _ => ⟨pk_in i 64 hi, br_t (by rw [nI_clamp (by omega)]; exact h1 i hp) (nm_r (nI_1 i) (hw () (by omega)))⟩))
theorem zq_edge {post : Int32 → Prop} {T l k p : Nat} (K : zq_K T l k a1 a2 a3 a4 a5) (hp : p < T ∨ T + zq_Z l ≤ p) (hp2 : p < 65536) (Hlt : p < T → post (nI T)) (Hge : T + zq_Z l ≤ p → post 65536) : wpX_nextEdge post (f0, f1, f2, f3, f4, a1, a2, a3, a4, a5, a6, a7, a8, a9) (nI p) := by
  obtain ⟨hl, hk, hE, hTT, h10, h1, h2, h3, h4, h50, h51⟩ := K
  have hZ := zq_Zpos l
  have n1 : ¬ a1 (0 : Int32).toNatClampNeg = 0 := by
    rw [zq_at0 h10]
    decide
  have g2 : a2 (0 : Int32).toNatClampNeg = nI T := zq_at0 h2
  have ez : a2 (0 : Int32).toNatClampNeg + ((65536 : Int32) >>> (a3 (0 : Int32).toNatClampNeg &&& 31)) = nI (T + zq_Z l) := by
    rw [zq_at0 h3, g2, zq_size hl, nI_add]
  rcases hp with h | h
  · obtain ⟨n, hn⟩ := zq_edgeT (post := post) (x := nI p) (E := a2 (0 : Int32).toNatClampNeg) (f0 := f0) (f1 := f1) (f2 := f2) (f3 := f3) (f4 := f4) (a2 := a2) (a3 := a3) (a4 := a4) (a5 := a5) (a6 := a6) (a7 := a7) (a8 := a8) (a9 := a9) h1 (ek_v g2 (Hlt h))
    refine ⟨n + 1, br_f (by decide) ⟨zq_i0, br_f n1 ⟨zq_i0, zq_i0, nm_r ez ⟨zq_i0, pk_le T p (fun z => absurd z (by omega)) (fun _ => ⟨zq_i0, pk_le 65536 T (fun z => absurd z (by omega)) (fun _ => ⟨zq_i0, ?_⟩) rfl g2⟩) g2 rfl⟩⟩⟩⟩
    exact pk_le (T + zq_Z l) p (fun z => absurd z (by omega)) (fun _ => pk_le T (T + zq_Z l) (fun _ => nm_r (e' := nI 1) (by decide) hn) (fun z => absurd z (by omega)) g2 rfl)
  · obtain ⟨n, hn⟩ := zq_edgeT (post := post) (x := nI p) (E := 65536) (f0 := f0) (f1 := f1) (f2 := f2) (f3 := f3) (f4 := f4) (a2 := a2) (a3 := a3) (a4 := a4) (a5 := a5) (a6 := a6) (a7 := a7) (a8 := a8) (a9 := a9) h1 (Hge h)
    refine ⟨n + 1, br_f (by decide) ⟨zq_i0, br_f n1 ⟨zq_i0, zq_i0, nm_r ez ⟨zq_i0, pk_le T p (fun _ => ?_) (fun z => absurd z (by omega)) g2 rfl⟩⟩⟩⟩
    exact pk_le (T + zq_Z l) p (fun _ => nm_r (e' := nI 1) (by decide) hn) (fun z => absurd z (by omega))
theorem zq_in {T l k a : Nat} (K : zq_K T l k a1 a2 a3 a4 a5) : zq_T a l = T ↔ T ≤ a ∧ a < T + zq_Z l := by
  have h := zq_same T a l
  rw [K.2.2.2.1] at h
  exact h
theorem zq_nx {post : Int32 → Prop} {T l k p : Nat} (K : zq_K T l k a1 a2 a3 a4 a5) (hp : p < 2 ^ 31) (H1 : T ≤ p → p < T + zq_Z l → post (nI p)) (H2 : p < T → post (nI T)) (H3 : T + zq_Z l ≤ p → post (-1)) : ∃ n, wX_next_27 post (nI k) f0 0 f2 f3 f4 a1 a2 a3 a4 a5 a6 a7 a8 a9 n (nI p) 0 := by
  have hE := K.2.2.1
  have hTT := K.2.2.2.1
  have hk := K.2.1
  have hZ := zq_Zpos l
  have nk : ¬ (-1 : Int32) = nI k := by
    intro e
    have := nI_pos (n := k) (by omega)
    rw [← e] at this
    exact this (by decide)
  refine ⟨2, br_f (by decide) (pk_le 65536 p (fun z => H3 (by omega)) (fun z => zq_own1 K z (zq_m16 z) (fun e => ?_) (fun e => br_f nk ?_)))⟩
  · obtain ⟨g1, g2⟩ := (zq_in K).mp e
    exact br_t rfl (H1 g1 g2)
  · have hd : p < T ∨ T + zq_Z l ≤ p := by
      rcases Nat.lt_or_ge p T with h | h
      · exact Or.inl h
      · rcases Nat.lt_or_ge p (T + zq_Z l) with h' | h'
        · exact absurd ((zq_in K).mpr ⟨h, h'⟩) e
        · exact Or.inr h'
    refine zq_edge K hd z (fun h => nm_r (e' := 1) (by decide) ?_) (fun h => nm_r (e' := 1) (by decide) ?_)
    · exact br_f (by decide) (pk_le 65536 T (fun z => absurd z (by omega)) (fun z => zq_own1 K z (zq_m16 z) (fun _ => br_t rfl (H2 h)) (fun e' => absurd hTT e')))
    · exact br_f (by decide) (br_t (by decide) (H3 h))
theorem zq_next {post : Int32 → Prop} {x due : Int32} {T l k : Nat} (K : zq_K T l k a1 a2 a3 a4 a5) (hd : (nI (T + zq_Z l) ≤ x ∧ due = -1) ∨ (x < nI (T + zq_Z l) ∧ nI T ≤ x ∧ due = x) ∨ (x < nI T ∧ due = nI T)) (H : post due) : wpX_next post (f0, 0, f2, f3, f4, a1, a2, a3, a4, a5, a6, a7, a8, a9) (nI k) x := by
  have hE := K.2.2.1
  have hk := K.2.1
  have hZ := zq_Zpos l
  have nk : ¬ nI k < -1 := by
    intro e
    exact nI_pos (n := k) (by omega) (Int32.lt_trans e (by decide))
  refine br_f nk (br_t (nI_le (b := 7) hk (by omega)) (br_c (fun h => ?_) (fun h => ?_)))
  · obtain ⟨p, hp, rfl⟩ := nI_of (Int32.not_lt.mpr h)
    rw [nI_leI (by omega) hp, nI_ltI hp (by omega), nI_ltI hp (by omega), nI_leI (by omega) hp] at hd
    refine zq_nx K hp (fun g1 g2 => ?_) (fun g => ?_) (fun g => ?_)
    · rcases hd with ⟨d1, d2⟩ | ⟨d1, d2, d3⟩ | ⟨d1, d2⟩
      · omega
      · rw [← d3]; exact H
      · omega
    · rcases hd with ⟨d1, d2⟩ | ⟨d1, d2, d3⟩ | ⟨d1, d2⟩
      · omega
      · omega
      · rw [← d2]; exact H
    · rcases hd with ⟨d1, d2⟩ | ⟨d1, d2, d3⟩ | ⟨d1, d2⟩
      · rw [← d2]; exact H
      · omega
      · omega
  · have hx : x < 0 := Int32.not_le.mp h
    have hd' : due = nI T := by
      rcases hd with ⟨d1, d2⟩ | ⟨d1, d2, d3⟩ | ⟨d1, d2⟩
      · exact absurd (Int32.le_trans (nI_pos' (by omega)) d1) h
      · exact absurd (Int32.le_trans (nI_pos' (by omega)) d2) h
      · exact d2
    rw [hd'] at H
    refine zq_nx (p := 0) K (by omega) (fun g1 g2 => ?_) (fun g => H) (fun g => absurd g (by omega))
    have : T = 0 := by omega
    rw [this] at H
    exact H

/-- find and deny -/
theorem zq_find1 {post : Int32 → St2 → Prop} {T l k c : Nat} (K : zq_K T l k a1 a2 a3 a4 a5) (hc : c < 65536) (Hin : zq_T c l = T → post 0 (f0, 0, f2, -1, -1, a1, a2, a3, a4, a5, a6, a7, a8, a9)) (Hout : zq_T c l ≠ T → post (-1) (f0, 0, f2, -1, -1, a1, a2, a3, a4, a5, a6, a7, a8, a9)) : wpX_find post (f0, 0, f2, f3, f4, a1, a2, a3, a4, a5, a6, a7, a8, a9) (nI c) (nI l) := by
  obtain ⟨hl, hk, hE, hTT, h10, h1, h2, h3, h4, h50, h51⟩ := K
  have hZ := zq_Zpos l
  have n3 : ¬ nI l < a3 (0 : Int32).toNatClampNeg := by
    rw [zq_at0 h3]
    exact nI_nlt (by omega) (by omega)
  exact ⟨1, br_f (by decide) (br_f (by decide) ⟨zq_i0, br_f n3 (zq_cov hc hl (by omega) rfl h2 h3 (fun e => br_f (by decide) ⟨zq_i0, br_t (zq_at0 h3) (Hin e)⟩) (fun e => br_t rfl (Hout e)))⟩)⟩
theorem zq_out {post : St2 → Prop} (h50 : a5 0 = -1) (h51 : a5 1 = -1) (H : ∀ r f b1 b4 b5, post (0, r, f, -1, -1, b1, a2, a3, b4, b5, a6, a7, a8, a9)) : wpX_takeOut post (1, 0, f2, -1, -1, a1, a2, a3, a4, a5, a6, a7, a8, a9) 0 := by
  have e0 : a5 (2 * 0 : Int32).toNatClampNeg = -1 := by rw [zq_d0]; exact h50
  have e1 : a5 ((2 * 0 : Int32) + 1).toNatClampNeg = -1 := by rw [zq_d1]; exact h51
  refine nm_r (e' := 0) (by decide) ⟨zq_i0, nm_e ⟨zq_j0, nm_r e0 ⟨zq_j1, nm_r e1 (br_t (by decide) (br_t (by decide) ⟨zq_i0, ?_⟩))⟩⟩⟩
  exact br_f (by decide) ⟨zq_i0, nm_e ⟨zq_j0, nm_e (br_f (by decide) (br_t (by decide) (H _ _ _ _ _)))⟩⟩
theorem zq_deny1 {post : Int32 → St2 → Prop} {x : Int32} {T l k a : Nat} (K : zq_K T l k a1 a2 a3 a4 a5) (ha : a < 65536) (hx : x &&& 65535 = nI a) (Hin : zq_T a l = T → ∀ u, post 0 u) (Hout : zq_T a l ≠ T → ∀ u, post (-1) u) : wpX_deny post (1, 0, f2, f3, f4, a1, a2, a3, a4, a5, a6, a7, a8, a9) x (nI l) := by
  have hl := K.1
  have hk := K.2.1
  have h4 : a4 (0 : Int32).toNatClampNeg = nI k := zq_at0 K.2.2.2.2.2.2.2.2.1
  have h50 := K.2.2.2.2.2.2.2.2.2.1
  have h51 := K.2.2.2.2.2.2.2.2.2.2
  have hle := zq_Tle a l
  have p4 : 0 ≤ a4 (0 : Int32).toNatClampNeg := by
    rw [h4]
    exact nI_pos' (by omega)
  refine br_f (nI_pos (by omega)) (br_t (nI_le (b := 16) hl (by omega)) (zq_wcut ha hl hx rfl (zq_find1 K (by omega) (fun e => ?_) (fun e => ?_))))
  · rw [zq_TT] at e
    exact br_f (by decide) ⟨zq_i0, br_t p4 (zq_out h50 h51 (fun _ _ _ _ _ => Hin e _))⟩
  · rw [zq_TT] at e
    exact br_t (by decide) (Hout e _)
end
end
section
/-! the law's own steps -/
section
variable {post : Int32 → St0 → Prop} {mc ms kc ks : Nat} {f0 f2 f3 f4 : Int32} {a1 a2 a3 a4 a5 a6 a7 a8 a9 : Nat → Int32}
/-- no entry: the tree stays empty -/
theorem zq_no {x0 x1 x2 x3 x4 : Int32} (hno : x1 < 0 ∨ 16 < x1 ∨ x2 < 0 ∨ 7 < x2) (H : post 1 ()) : wL_lawOf_34 post mc ms x0 x1 x2 x3 x4 0 kc ks f0 (-1) f2 f3 f4 a1 a2 a3 a4 a5 a6 a7 a8 a9 := by
  refine zq_allow0 hno (br_t rfl (br_t rfl (br_t rfl ⟨by decide, nm_e (nm_e (br_t rfl ?_))⟩)))
  unfold wL_lawOf_118 wL_lawOf_119
  refine zq_own0 (br_t rfl (br_t rfl (zq_len0 (br_t rfl (br_t rfl (zq_owned0 (fun s => br_t rfl (br_t rfl (br_t rfl (br_t rfl ?_))))))))))
  exact zq_deny0 (fun u => br_t rfl (br_t rfl H))
/-- the entry stands; the law's last call -/
theorem zq_242 {x3 z : Int32} {T l k a : Nat} (K : zq_K T l k a1 a2 a3 a4 a5) (ha : a < 65536) (hx : x3 &&& 65535 = nI a) (hz : (z = 0 ∧ zq_T a l ≠ T) ∨ (z = 1 ∧ zq_T a l = T)) (H : post 1 ()) : wL_lawOf_242 post mc ms (nI l) x3 z kc ks 1 0 f2 f3 f4 a1 a2 a3 a4 a5 a6 a7 a8 a9 := by
  rcases hz with ⟨rfl, e⟩ | ⟨rfl, e⟩
  · exact zq_deny1 K ha hx (fun e' => absurd e' e) (fun _ u => br_t rfl (br_t rfl H))
  · exact zq_deny1 K ha hx (fun _ u => br_f (by decide) (br_t rfl H)) (fun e' => absurd e e')
theorem zq_220 {x3 x4 z due : Int32} {T l k a : Nat} (K : zq_K T l k a1 a2 a3 a4 a5) (ha : a < 65536) (hx : x3 &&& 65535 = nI a) (hz : (z = 0 ∧ zq_T a l ≠ T) ∨ (z = 1 ∧ zq_T a l = T)) (hd : (nI (T + zq_Z l) ≤ x4 ∧ due = -1) ∨ (x4 < nI (T + zq_Z l) ∧ nI T ≤ x4 ∧ due = x4) ∨ (x4 < nI T ∧ due = nI T)) (H : post 1 ()) : wL_lawOf_220 post mc ms (nI l) (nI k) x3 x4 1 z due kc ks 1 0 f2 f3 f4 a1 a2 a3 a4 a5 a6 a7 a8 a9 :=
  br_f (by decide) (zq_next K hd (br_t rfl (zq_242 K ha hx hz H)))
theorem zq_182 {x3 x4 z w : Int32} {T l k a : Nat} (K : zq_K T l k a1 a2 a3 a4 a5) (ha : a < 65536) (hx : x3 &&& 65535 = nI a) (hz : (z = 0 ∧ zq_T a l ≠ T) ∨ (z = 1 ∧ zq_T a l = T)) (H : post 1 ()) : wL_lawOf_182 post mc ms (nI l) (nI k) x3 x4 1 (nI (zq_Z l)) (nI T) z w w kc ks 1 0 f2 f3 f4 a1 a2 a3 a4 a5 a6 a7 a8 a9 := by
  refine br_t rfl (br_f (by decide) (br_c (fun h => ?_) (fun h => ?_)))
  · rw [nI_add] at h
    exact br_c (fun h2 => zq_220 K ha hx hz (Or.inr (Or.inl ⟨h, h2, rfl⟩)) H) (fun h2 => zq_220 K ha hx hz (Or.inr (Or.inr ⟨Int32.not_le.mp h2, rfl⟩)) H)
  · rw [nI_add] at h
    exact zq_220 K ha hx hz (Or.inl ⟨Int32.not_lt.mp h, rfl⟩) H
theorem zq_156 {x3 x4 z w : Int32} {T l k a : Nat} (K : zq_K T l k a1 a2 a3 a4 a5) (ha : a < 65536) (hx : x3 &&& 65535 = nI a) (hz : (z = 0 ∧ zq_T a l ≠ T) ∨ (z = 1 ∧ zq_T a l = T)) (H : post 1 ()) : wL_lawOf_156 post mc ms (nI l) (nI k) x3 x4 1 (nI (zq_Z l)) (nI T) z w w kc ks 1 0 f2 f3 f4 a1 a2 a3 a4 a5 a6 a7 a8 a9 :=
  br_t rfl (zq_owned1 K (fun s t u v => br_f (by decide) (zq_182 K ha hx hz H)))
theorem zq_119 {x3 x4 z : Int32} {T l k a : Nat} (K : zq_K T l k a1 a2 a3 a4 a5) (ha : a < 65536) (hx : x3 &&& 65535 = nI a) (hz : (z = 0 ∧ zq_T a l ≠ T) ∨ (z = 1 ∧ zq_T a l = T)) (H : post 1 ()) : wL_lawOf_119 post mc ms (nI l) (nI k) x3 x4 1 (nI (zq_Z l)) (nI T) z kc ks 1 0 f2 f3 f4 a1 a2 a3 a4 a5 a6 a7 a8 a9 := by
  rcases hz with ⟨rfl, e⟩ | ⟨rfl, e⟩
  · refine zq_own1 K ha hx (fun e' => absurd e' e) (fun _ => br_t rfl (br_t rfl ?_))
    exact zq_len1 K ha hx (fun e' => absurd e' e) (fun _ => br_t rfl (zq_156 K ha hx (Or.inl ⟨rfl, e⟩) H))
  · refine zq_own1 K ha hx (fun _ => br_f (by decide) (br_t rfl ?_)) (fun e' => absurd e e')
    exact zq_len1 K ha hx (fun _ => br_f (by decide) (zq_156 K ha hx (Or.inr ⟨rfl, e⟩) H)) (fun e' => absurd e e')
theorem zq_yes {x0 x3 x4 : Int32} {l k : Nat} (hl : l ≤ 16) (hk : k ≤ 7) (H : post 1 ()) : wL_lawOf_34 post mc ms x0 (nI l) (nI k) x3 x4 1 kc ks 0 (-1) 0 0 0 (fun _ => 0) (fun _ => 0) (fun _ => 0) (fun _ => 0) a5 a6 a7 a8 a9 := by
  obtain ⟨A, hA, eA⟩ := zq_mask x0
  obtain ⟨a, ha, ea⟩ := zq_mask x3
  have hZ := zq_Zpos l
  have hZ2 := zq_Zle l
  have hE := zq_end hA hl
  refine zq_allow1 hA eA hl hk (fun f a1 a2 a3 a4 a5 K => br_f (by decide) (br_t rfl (br_f (by decide) ?_)))
  rw [zq_size hl]
  have e8 : (x0 &&& 65535) / nI (zq_Z l) * nI (zq_Z l) = nI (zq_T A l) := by
    rw [eA]
    exact zq_start hA
  refine ⟨nI_ne0 hZ (by omega), nm_r e8 (nm_r ea (br_f (by decide) (pk_lt a (zq_T A l) (fun g => ?_) (fun g => pk_le (zq_T A l + zq_Z l) a (fun g2 => ?_) (fun g2 => ?_) (nI_add _ _)))))⟩
  · exact zq_119 K ha ea (Or.inl ⟨rfl, fun e => by have := (zq_in K).mp e; omega⟩) H
  · exact zq_119 K ha ea (Or.inl ⟨rfl, fun e => by have := (zq_in K).mp e; omega⟩) H
  · exact zq_119 K ha ea (Or.inr ⟨rfl, (zq_in K).mpr ⟨g, g2⟩⟩) H
theorem zq_lawOf {x0 x1 x2 x3 x4 : Int32} (H : post 1 ()) : wpL_lawOf post 10 599 () x0 x1 x2 x3 x4 := by
  refine ⟨by omega, by omega, 9, 585, by omega, by omega, zq_init (by omega) (by omega) (fun c => ?_)⟩
  refine br_c (fun h => zq_no (Or.inl h) H) (fun h1 => br_c (fun h => zq_no (Or.inr (Or.inl h)) H) (fun h2 => br_c (fun h => zq_no (Or.inr (Or.inr (Or.inl h))) H) (fun h3 => br_c (fun h => zq_no (Or.inr (Or.inr (Or.inr h))) H) (fun h4 => ?_))))
  obtain ⟨l, hl, rfl⟩ := nI_of2 (x := x1) (M := 16) (n := 16) (by decide) h1 (Int32.not_lt.mp h2)
  obtain ⟨k, hk, rfl⟩ := nI_of2 (x := x2) (M := 7) (n := 7) (by decide) h3 (Int32.not_lt.mp h4)
  exact zq_yes hl hk H
end
theorem zq_cell {post : Int32 → Prop} {L : Nat} {xs : Nat → Int32} {j : Nat} {y : Int32} (hL : L ≤ 5) (hy : y = nI j) (hj : j < 2 ^ 31) (H : ∀ r, post r) : wpL_cellAt post L xs () y :=
  pk_le L j (fun _ => H _) (fun g => ⟨pk_in j L g hy (by omega), H _⟩) rfl hy (by omega) hj
theorem i_vc (xs : Nat → Int32) (L : Nat) (hL : L ≤ 5) : wpL_law (fun r => r = 1) L xs :=
  zq_cell (j := 0) hL rfl (by omega) (fun _ => zq_cell (j := 1) hL rfl (by omega) (fun _ => zq_cell (j := 2) hL rfl (by omega) (fun _ => zq_cell (j := 3) hL rfl (by omega) (fun _ => zq_cell (j := 4) hL rfl (by omega) (fun _ => ⟨10, 599, by omega, by omega, zq_lawOf rfl⟩)))))
end
