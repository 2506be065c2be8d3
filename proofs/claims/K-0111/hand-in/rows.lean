section
theorem pk_us {f : Nat → Int32} {k : Nat} {x : Int32} : upd f k x k = x := if_pos rfl
theorem pk_sub {a b : Nat} (h : b ≤ a) : nI a - nI b = nI (a - b) := by
  obtain ⟨c, rfl⟩ : ∃ c, a = c + b := ⟨a - b, by omega⟩
  rw [← nI_add, Int32.add_sub_cancel, Nat.add_sub_cancel]
theorem pk_m1 (n : Nat) : nI (n + 1) + (-1) = nI n := by
  rw [← nI_1, Int32.add_assoc, show (1 : Int32) + (-1) = 0 from rfl, Int32.add_zero]
theorem pk_and (x : Int32) {m : Int32} (k : Nat) (hm : m.toBitVec.toNat = 2 ^ k - 1) : x &&& m = nI (x.toBitVec.toNat % 2 ^ k) := by
  apply Int32.toBitVec_inj.mp
  apply BitVec.eq_of_toNat_eq
  rw [Int32.toBitVec_and, BitVec.toNat_and, hm, Nat.and_two_pow_sub_one_eq_mod]
  show _ = (BitVec.ofNat 32 _).toNat
  rw [BitVec.toNat_ofNat]
  exact (Nat.mod_eq_of_lt (Nat.lt_of_le_of_lt (Nat.mod_le _ _) x.toBitVec.isLt)).symm
theorem pk_andE (x : Int32) {m : Int32} (k : Nat) (hm : m.toBitVec.toNat = 2 ^ k - 1) : ∃ j : Nat, j < 2 ^ k ∧ x &&& m = nI j := ⟨_, Nat.mod_lt _ (Nat.two_pow_pos k), pk_and x k hm⟩
theorem pk_vb (z : Int32) : vp_nar .byte z.toInt8.toInt32 = z.toInt8.toInt32 := by rw [vp_nar_byte]; simp
end
section
/-- m cells from p on get the byte b -/
def lr_fl (b : Int32) : Nat → Nat → (Nat → Int32) → Nat → Int32
  | 0, _, a => a
  | m + 1, p, a => lr_fl b m (p + 1) (upd a p b)
theorem lr_last (b : Int32) : ∀ (d p : Nat) (a : Nat → Int32), lr_fl b (d + 1) p a (p + d) = b := by
  intro d
  induction d with
  | zero => intro p a; exact pk_us
  | succ d ih =>
    intro p a
    have h := ih (p + 1) (upd a p b)
    rw [show p + 1 + d = p + (d + 1) from by omega] at h
    exact h
/-- a value of 0 to 15 is its own byte -/
theorem lr_small : ∀ w, w < 16 → (nI w).toInt8.toInt32 = nI w := by decide +kernel
theorem lr_nar {w : Nat} (h : w < 16) : vp_nar .byte (nI w).toInt8.toInt32 = nI w := (pk_vb _).trans (lr_small w h)
theorem lr_X {post : Int32 → SX → Prop} {x4 b fc fp : Int32} {m p : Nat} (hb : vp_nar .byte x4.toInt8.toInt32 = b) (hm : p + m ≤ 160) :
    ∀ (d i : Nat) (a : Nat → Int32), i + d = m → post (nI m) (fc, nI (p + m), x4, lr_fl b d (p + i) a) → wX_symbol_106 post (nI m) x4 fc (nI p) fp (d + 1) (nI i) a := by
  intro d
  induction d with
  | zero =>
    intro i a hi hp
    exact br_t (nI_le (by omega) (by omega)) (nm_r (nI_add p m) hp)
  | succ d ih =>
    intro i a hi hp
    have e : nI p + nI i = nI (p + i) := nI_add p i
    have hin : vp_in (nI p + nI i) 160 := by rw [e]; exact vp_in_nI (by omega) (by omega)
    have ec : (nI p + nI i).toNatClampNeg = p + i := by rw [e]; exact nI_clamp (by omega)
    have ea : upd a (nI p + nI i).toNatClampNeg (vp_nar .byte x4.toInt8.toInt32) = upd a (p + i) b := by rw [ec, hb]
    exact br_f (nI_ge (by omega) (by omega)) ⟨hin, nm_r ea (nm_r (nI_1 i) (ih (i + 1) (upd a (p + i) b) (by omega) hp))⟩
theorem lr_Y {post : Int32 → SY → Prop} {x3 x4 b fc : Int32} (hb : vp_nar .byte x4.toInt8.toInt32 = b) :
    ∀ (d p : Nat) (a : Nat → Int32), p + d ≤ 160 → post x3 (fc, nI (p + d), lr_fl b d p a) → wY_symbol_121 post x3 x4 fc (d + 1) (nI d) (nI p) a := by
  intro d
  induction d with
  | zero =>
    intro p a h hp
    exact nm_e (br_t (nI_le (a := 0) (b := 0) (by omega) (by omega)) hp)
  | succ d ih =>
    intro p a h hp
    have hin : vp_in (nI p) 160 := vp_in_nI (by omega) (by omega)
    have ea : upd a (nI p).toNatClampNeg (vp_nar .byte x4.toInt8.toInt32) = upd a p b := by rw [nI_clamp (by omega), hb]
    have hp' : post x3 (fc, nI (p + 1 + d), lr_fl b d (p + 1) (upd a p b)) := by
      rw [show p + 1 + d = p + (d + 1) from by omega]; exact hp
    exact nm_r (pk_m1 d) (br_f (nI_nle (by omega) (by omega)) (nm_r (nI_1 p) ⟨hin, nm_r ea (ih (p + 1) (upd a p b) (by omega) hp')⟩))
end
section
/-- one capacity c, one fill p, one array; what is kept as the last value is the last cell's, and it lies in 0 to 15 -/
def i_Rel (_ : Nat) (u : SX) (v : SY) : Prop :=
  ∃ (c p w : Nat) (a : Nat → Int32), u = (nI c, nI p, nI w, a) ∧ v = (nI c, nI p, a) ∧ 1 ≤ c ∧ c ≤ 160 ∧ p ≤ c ∧ w < 16 ∧ (0 < p → a (p - 1) = nI w)
theorem i_up {k : Nat} {u : SX} {v : SY} (h : i_Rel k u v) : i_Rel (k + 3) u v := h
theorem lr_new {k c : Nat} (h1 : 1 ≤ c) (h2 : c ≤ 160) : i_Rel k (nI c, 0, 0, fun _ => 0) (nI c, 0, fun _ => 0) :=
  ⟨c, 0, 0, fun _ => 0, rfl, rfl, h1, h2, by omega, by omega, fun _ => rfl⟩
theorem i_vc0 (k0 : Int32) : wpX_init (fun u => wpY_init (fun v => i_Rel 1 u v) k0) k0 := by
  by_cases h1 : 1 ≤ k0
  · by_cases h2 : k0 ≤ 160
    · have h0 : ¬ k0 < 0 := by
        have := Int32.le_iff_toInt_le.mp h1
        have e : (1 : Int32).toInt = 1 := by decide
        rw [Int32.lt_iff_toInt_lt, Int32.toInt_zero]; omega
      obtain ⟨c, hc, rfl⟩ := nI_of2 (n := 160) (by decide) h0 h2
      have hc1 : 1 ≤ c := (nI_leI (a := 1) (by omega) (by omega)).mp h1
      exact br_t h1 (br_t h2 (br_t h1 (br_t h2 (lr_new hc1 hc))))
    · exact br_t h1 (br_f h2 (br_t h1 (br_f h2 (lr_new (c := 160) (by omega) (by omega)))))
  · exact br_f h1 (br_t (by decide) (br_f h1 (lr_new (c := 1) (by omega) (by omega))))
/-- the common end of the symbol calls: m cells of the value w -/
theorem lr_tail {k c p w0 w m : Nat} {a : Nat → Int32} (h1 : 1 ≤ c) (h2 : c ≤ 160) (h3 : p ≤ c) (h4 : w0 < 16) (h5 : 0 < p → a (p - 1) = nI w0) (hw : w < 16) (hm : 1 ≤ m) (hm2 : m ≤ 200) :
    ∃ (r : Int32) (u' : SX) (v' : SY), i_Rel k u' v' ∧ (∀ post : Int32 → SX → Prop, post r u' → wX_symbol_88 post (nI m) (nI w) (nI c) (nI p) (nI w0) a) ∧ (∀ post : Int32 → SY → Prop, post r v' → wY_symbol_103 post (nI m) (nI w) (nI c) (nI p) a) := by
  have es : nI c - nI p = nI (c - p) := pk_sub h3
  by_cases h : m ≤ c - p
  · have hl : nI m ≤ nI c - nI p := by rw [es]; exact nI_le h (by omega)
    have e0 : lr_fl (nI w) m p a (p + m - 1) = nI w := by
      obtain ⟨d, rfl⟩ : ∃ d, m = d + 1 := ⟨m - 1, by omega⟩
      exact lr_last (nI w) d p a
    refine ⟨nI m, (nI c, nI (p + m), nI w, lr_fl (nI w) m p a), (nI c, nI (p + m), lr_fl (nI w) m p a), ⟨c, p + m, w, _, rfl, rfl, h1, h2, by omega, hw, fun _ => e0⟩, fun post hp => ?_, fun post hp => ?_⟩
    · exact br_t hl ⟨m + 1, lr_X (lr_nar hw) (by omega) m 0 a (by omega) hp⟩
    · exact br_t hl ⟨m + 1, lr_Y (lr_nar hw) m p a (by omega) hp⟩
  · have hl : ¬ nI m ≤ nI c - nI p := by rw [es]; exact nI_ge (by omega) (by omega)
    exact ⟨-1, (nI c, nI p, nI w0, a), (nI c, nI p, a), ⟨c, p, w0, a, rfl, rfl, h1, h2, h3, h4, h5⟩, fun _ hp => br_f hl hp, fun _ hp => br_f hl hp⟩
theorem i_vc_symbol {k : Nat} {u : SX} {v : SY} (I : i_Rel k u v) (hk : k + 3 ≤ 1537) (v1 : Int32) (v2 : Int32) : wpX_symbol (fun r u' => wpY_symbol (fun r' v' => r' = r ∧ i_Rel (k + 3) u' v') v v1 v2) u v1 v2 := by
  have J : i_Rel (k + 3) u v := I
  obtain ⟨c, p, w0, a, rfl, rfl, h1, h2, h3, h4, h5⟩ := I
  by_cases h0 : v1 < 0
  · have h16 : v1 < 16 := Int32.lt_trans h0 (by decide)
    exact br_t h0 (br_t h16 (br_t h0 ⟨rfl, J⟩))
  · obtain ⟨s, hs, rfl⟩ := nI_of h0
    by_cases s15 : s < 16
    · have a1 : nI s ≤ 18 := nI_le (b := 18) (by omega) (by omega)
      have a2 : ¬ 15 < nI s := nI_nlt (a := 15) (b := s) (by omega) (by omega)
      have a3 : nI s < 16 := nI_lt (b := 16) (by omega) (by omega)
      have a4 : nI s ≤ 15 := nI_le (b := 15) (by omega) (by omega)
      obtain ⟨r, u', v', K, hX, hY⟩ := lr_tail (k := k + 3) (m := 1) h1 h2 h3 h4 h5 s15 (by omega) (by omega)
      exact br_f h0 (br_t a1 (br_f a2 (hX _ (br_t a3 (br_f h0 (br_t a4 (hY _ ⟨rfl, K⟩)))))))
    · have b3 : ¬ nI s < 16 := nI_nlt (b := 16) (by omega) (by omega)
      have b4 : ¬ nI s ≤ 15 := nI_ge (a := 15) (by omega) (by omega)
      by_cases s18 : 18 < s
      · have a1 : ¬ nI s ≤ 18 := nI_ge (a := 18) (by omega) (by omega)
        have a2 : 18 < nI s := nI_lt (a := 18) (by omega) (by omega)
        exact br_f h0 (br_f a1 (br_f b3 (br_t a2 (br_f h0 (br_f b4 ⟨rfl, J⟩)))))
      · have a1 : nI s ≤ 18 := nI_le (b := 18) (by omega) (by omega)
        have a2 : 15 < nI s := nI_lt (a := 15) (by omega) (by omega)
        have a3 : ¬ 18 < nI s := nI_nlt (a := 18) (b := s) (by omega) (by omega)
        by_cases e16 : s = 16
        · have c1 : nI s = 16 := by rw [e16]; rfl
          by_cases hp : p = 0
          · have c2 : nI p = 0 := by rw [hp]; exact nI_0
            exact br_f h0 (br_t a1 (br_t a2 (br_t c1 (br_t c2 (br_f b3 (br_f a3 (br_t c1 (br_t c2 ⟨rfl, J⟩))))))))
          · have c2 : ¬ nI p = 0 := nI_ne0 (by omega) (by omega)
            obtain ⟨j, hj, ej⟩ := pk_andE v2 (m := 3) 2 (by decide)
            have hj' : j < 4 := hj
            have e3 : 3 + (v2 &&& 3) = nI (3 + j) := by rw [ej]; exact nI_add 3 j
            have ep : nI p - 1 = nI (p - 1) := pk_sub (b := 1) (by omega)
            have hin : vp_in (nI p - 1) 160 := by rw [ep]; exact vp_in_nI (by omega) (by omega)
            have ev : a (nI p - 1).toNatClampNeg = nI w0 := by rw [ep, nI_clamp (by omega)]; exact h5 (by omega)
            obtain ⟨r, u', v', K, hX, hY⟩ := lr_tail (k := k + 3) (m := 3 + j) h1 h2 h3 h4 h5 h4 (by omega) (by omega)
            exact br_f h0 (br_t a1 (br_t a2 (br_t c1 (br_f c2 (nm_r e3 (hX _ (br_f b3 (br_f a3 (br_t c1 (br_f c2 (nm_r e3 ⟨hin, nm_r ev (hY _ ⟨rfl, K⟩)⟩)))))))))))
        · have c1 : ¬ nI s = 16 := fun z => e16 ((nI_eq (b := 16) (by omega) (by omega)).mp z)
          by_cases e17 : s = 17
          · have c2 : nI s = 17 := by rw [e17]; rfl
            obtain ⟨j, hj, ej⟩ := pk_andE v2 (m := 7) 3 (by decide)
            have hj' : j < 8 := hj
            have e3 : 3 + (v2 &&& 7) = nI (3 + j) := by rw [ej]; exact nI_add 3 j
            obtain ⟨r, u', v', K, hX, hY⟩ := lr_tail (k := k + 3) (m := 3 + j) (w := 0) h1 h2 h3 h4 h5 (by omega) (by omega) (by omega)
            exact br_f h0 (br_t a1 (br_t a2 (br_f c1 (br_t c2 (nm_r e3 (hX _ (br_f b3 (br_f a3 (br_f c1 (br_t c2 (nm_r e3 (hY _ ⟨rfl, K⟩))))))))))))
          · have c2 : ¬ nI s = 17 := fun z => e17 ((nI_eq (b := 17) (by omega) (by omega)).mp z)
            have c3 : nI s = 18 := by rw [show s = 18 from by omega]; rfl
            obtain ⟨j, hj, ej⟩ := pk_andE v2 (m := 127) 7 (by decide)
            have hj' : j < 128 := hj
            have e3 : 11 + (v2 &&& 127) = nI (11 + j) := by rw [ej]; exact nI_add 11 j
            obtain ⟨r, u', v', K, hX, hY⟩ := lr_tail (k := k + 3) (m := 11 + j) (w := 0) h1 h2 h3 h4 h5 (by omega) (by omega) (by omega)
            exact br_f h0 (br_t a1 (br_t a2 (br_f c1 (br_f c2 (nm_r e3 (hX _ (br_f b3 (br_f a3 (br_f c1 (br_f c2 (br_t c3 (nm_r e3 (hY _ ⟨rfl, K⟩)))))))))))))
theorem i_vc_lenAt {k : Nat} {u : SX} {v : SY} (I : i_Rel k u v) (hk : k + 3 ≤ 1537) (v1 : Int32) : wpX_lenAt (fun r => wpY_lenAt (fun r' => r' = r ∧ i_Rel (k + 3) u v) v v1) u v1 := by
  have J : i_Rel (k + 3) u v := I
  obtain ⟨c, p, w0, a, rfl, rfl, h1, h2, h3, h4, h5⟩ := I
  by_cases h0 : v1 < 0
  · exact br_t h0 (br_t h0 ⟨rfl, J⟩)
  · by_cases hp : nI p ≤ v1
    · exact br_f h0 (br_t hp (br_f h0 (br_t hp ⟨rfl, J⟩)))
    · have hin : vp_in v1 160 := by
        obtain ⟨j, hj, rfl⟩ := nI_of h0
        rw [nI_leI (by omega) hj] at hp
        exact vp_in_nI (by omega) (by omega)
      exact br_f h0 (br_f hp ⟨hin, br_f h0 (br_f hp ⟨hin, rfl, J⟩)⟩)
theorem i_vc_filled {k : Nat} {u : SX} {v : SY} (I : i_Rel k u v) (hk : k + 3 ≤ 1537) : wpX_filled (fun r => wpY_filled (fun r' => r' = r ∧ i_Rel (k + 3) u v) v) u := by
  have J : i_Rel (k + 3) u v := I
  obtain ⟨c, p, w0, a, rfl, rfl, h1, h2, h3, h4, h5⟩ := I
  exact ⟨rfl, J⟩
end
