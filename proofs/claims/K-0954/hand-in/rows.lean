section
theorem pk_us {f : Nat → Int32} {k : Nat} {x : Int32} : upd f k x k = x := if_pos rfl
theorem pk_un {f : Nat → Int32} {k j : Nat} {x : Int32} (h : j ≠ k) : upd f k x j = f j := if_neg h
theorem pk_m1 (n : Nat) : nI (n + 1) + (-1) = nI n := by
  rw [← nI_1, Int32.add_assoc, show (1 : Int32) + (-1) = 0 from rfl, Int32.add_zero]
theorem pk_tn {n : Nat} (h : n < 2 ^ 32) : (nI n).toBitVec.toNat = n := Nat.mod_eq_of_lt h
theorem pk_charN {q : Nat} (hq : q < 65536) : narrow .char (.int (nI q)) = .int (nI q) ∧ fits .char (.int (nI q)) = true := by
  constructor
  · have e : (nI q).toUInt32.toUInt16.toUInt32.toInt32 = nI q := by
      apply Int32.toBitVec_inj.mp
      apply BitVec.eq_of_toNat_eq
      show (nI q).toUInt32.toUInt16.toUInt32.toNat = q % 2 ^ 32
      rw [UInt16.toNat_toUInt32, UInt32.toNat_toUInt16, show (nI q).toUInt32.toNat = q % 2 ^ 32 from rfl]
      omega
    exact congrArg Value.int e
  · have a : (0 : Int32) ≤ nI q := nI_pos' (by omega)
    have b : nI q ≤ 65535 := nI_le (b := 65535) (by omega) (by decide)
    show (decide ((0 : Int32) ≤ nI q) && decide (nI q ≤ 65535)) = true
    rw [decide_eq_true a, decide_eq_true b]
    rfl
theorem pk_char (x : Int32) : (x.toUInt32 % 65536).toInt32 = nI (x.toBitVec.toNat % 65536) := by
  apply Int32.toBitVec_inj.mp
  apply BitVec.eq_of_toNat_eq
  rw [pk_tn (by omega)]
  show (x.toUInt32 % 65536).toNat = _
  rw [UInt32.toNat_mod]
  rfl
theorem pk_nc (x : Int32) : narrow .char (.int (x.toUInt32 % 65536).toInt32) = .int (x.toUInt32 % 65536).toInt32 := by
  rw [pk_char]
  exact (pk_charN (Nat.mod_lt _ (by decide))).1
theorem pk_vb (z : Int32) : vp_nar .byte z.toInt8.toInt32 = z.toInt8.toInt32 := by rw [vp_nar_byte]; simp
theorem pk_vc (z : Int32) : vp_nar .char (z.toUInt32 % 65536).toInt32 = (z.toUInt32 % 65536).toInt32 := Value.int.inj (pk_nc z)
end
section
/-! ===== the reference's kind, one row a char ===== -/
theorem bm_k40 {P : Int32 → Prop} {c : Int32} (e : c = 40) (h : P 41) : wpY_kind P c := by
  subst e
  exact br_t rfl h
theorem bm_k41 {P : Int32 → Prop} {c : Int32} (e : c = 41) (h : P (-40)) : wpY_kind P c := by
  subst e
  exact br_f (by decide) (br_t rfl h)
theorem bm_k91 {P : Int32 → Prop} {c : Int32} (e : c = 91) (h : P 93) : wpY_kind P c := by
  subst e
  exact br_f (by decide) (br_f (by decide) (br_t rfl h))
theorem bm_k93 {P : Int32 → Prop} {c : Int32} (e : c = 93) (h : P (-91)) : wpY_kind P c := by
  subst e
  exact br_f (by decide) (br_f (by decide) (br_f (by decide) (br_t rfl h)))
theorem bm_k123 {P : Int32 → Prop} {c : Int32} (e : c = 123) (h : P 125) : wpY_kind P c := by
  subst e
  exact br_f (by decide) (br_f (by decide) (br_f (by decide) (br_f (by decide) (br_t rfl h))))
theorem bm_k125 {P : Int32 → Prop} {c : Int32} (e : c = 125) (h : P (-123)) : wpY_kind P c := by
  subst e
  exact br_f (by decide) (br_f (by decide) (br_f (by decide) (br_f (by decide) (br_f (by decide) (br_t rfl h)))))
theorem bm_k0 {P : Int32 → Prop} {c : Int32} (e1 : ¬ c = 40) (e2 : ¬ c = 91) (e3 : ¬ c = 123) (e4 : ¬ c = 41) (e5 : ¬ c = 93) (e6 : ¬ c = 125) (h : P 0) : wpY_kind P c :=
  br_f e1 (br_f e4 (br_f e2 (br_f e5 (br_f e3 (br_f e6 h)))))
/-! ===== small numbers ===== -/
theorem bm_m (q : Int32) : q + (-1) = q - 1 := (Int32.sub_eq_add_neg q 1).symm
theorem bm_8 : nI 8 = 8 := by decide +kernel
theorem bm_neg : nI 0 + (-1) < 0 := by decide +kernel
theorem bm_ge {j : Nat} (h : j < 8) : ¬ (8 : Int32) ≤ nI j := by
  rw [← bm_8]
  exact nI_ge h (by omega)
theorem bm_le {j : Nat} (h : 8 ≤ j) (hj : j < 2 ^ 31) : (8 : Int32) ≤ nI j := by
  rw [← bm_8]
  exact nI_le h hj
/-! ===== the two scans of partner, in lockstep: one answer for both ===== -/
theorem bm_up (a s : Nat → Int32) (c o : Int32) : ∀ d j : Nat, j + d = 8 → ∀ q : Int32, ∃ r : Int32,
    (∀ post : Int32 → Prop, post r → wX_partner_120 post c o 1 a s (d + 1) q (nI j)) ∧
    (∀ post : Int32 → Prop, post r → wY_partner_62 post c 1 o a s (d + 1) q (nI j)) := by
  intro d
  induction d with
  | zero =>
    intro j hj q
    have h0 : ¬ nI j < 0 := nI_pos (by omega)
    have h8 : (8 : Int32) ≤ nI j := bm_le (by omega) (by omega)
    exact ⟨-1, fun _ hp => br_f h0 (br_t h8 hp), fun _ hp => br_f h0 (br_t h8 hp)⟩
  | succ d ih =>
    intro j hj q
    have h0 : ¬ nI j < 0 := nI_pos (by omega)
    have h8 : ¬ (8 : Int32) ≤ nI j := bm_ge (by omega)
    have hi : vp_in (nI j) 8 := vp_in_nI (by omega) (by omega)
    by_cases zc : a (nI j).toNatClampNeg = c
    · obtain ⟨r, hX, hY⟩ := ih (j + 1) (by omega) (q + 1)
      exact ⟨r,
        fun post hp => br_f h0 (br_f h8 ⟨hi, fun y ey => br_t (ey.trans zc) (nm_e (nm_r (nI_1 j) (hX post hp)))⟩),
        fun post hp => br_f h0 (br_f h8 ⟨hi, fun y ey => br_t (ey.trans zc) (nm_e (nm_r (nI_1 j) (hY post hp)))⟩)⟩
    · by_cases zo : a (nI j).toNatClampNeg = o
      · by_cases zq : q - 1 = 0
        · exact ⟨nI j,
            fun post hp => br_f h0 (br_f h8 ⟨hi, fun y ey => br_f (fun z => zc (ey.symm.trans z)) (br_t (ey.trans zo) (nm_e (br_t zq hp)))⟩),
            fun post hp => br_f h0 (br_f h8 ⟨hi, fun y ey => br_f (fun z => zc (ey.symm.trans z)) (br_t (ey.trans zo) (nm_r (bm_m q) (br_t zq hp)))⟩)⟩
        · obtain ⟨r, hX, hY⟩ := ih (j + 1) (by omega) (q - 1)
          exact ⟨r,
            fun post hp => br_f h0 (br_f h8 ⟨hi, fun y ey => br_f (fun z => zc (ey.symm.trans z)) (br_t (ey.trans zo) (nm_e (br_f zq (nm_r (nI_1 j) (hX post hp)))))⟩),
            fun post hp => br_f h0 (br_f h8 ⟨hi, fun y ey => br_f (fun z => zc (ey.symm.trans z)) (br_t (ey.trans zo) (nm_r (bm_m q) (br_f zq (nm_r (nI_1 j) (hY post hp)))))⟩)⟩
      · obtain ⟨r, hX, hY⟩ := ih (j + 1) (by omega) q
        exact ⟨r,
          fun post hp => br_f h0 (br_f h8 ⟨hi, fun y ey => br_f (fun z => zc (ey.symm.trans z)) (br_f (fun z => zo (ey.symm.trans z)) (nm_r (nI_1 j) (hX post hp)))⟩),
          fun post hp => br_f h0 (br_f h8 ⟨hi, fun y ey => br_f (fun z => zc (ey.symm.trans z)) (br_f (fun z => zo (ey.symm.trans z)) (nm_r (nI_1 j) (hY post hp)))⟩)⟩
theorem bm_dn (a s : Nat → Int32) (c o : Int32) : ∀ j : Nat, j ≤ 8 → ∀ q : Int32, ∃ r : Int32,
    (∀ post : Int32 → Prop, post r → wX_partner_120 post c o (-1) a s (j + 1) q (nI j + (-1))) ∧
    (∀ post : Int32 → Prop, post r → wY_partner_62 post c (-1) o a s (j + 1) q (nI j + (-1))) := by
  intro j
  induction j with
  | zero =>
    intro hj q
    exact ⟨-1, fun _ hp => br_t bm_neg hp, fun _ hp => br_t bm_neg hp⟩
  | succ j ih =>
    intro hj q
    rw [pk_m1]
    have h0 : ¬ nI j < 0 := nI_pos (by omega)
    have h8 : ¬ (8 : Int32) ≤ nI j := bm_ge (by omega)
    have hi : vp_in (nI j) 8 := vp_in_nI (by omega) (by omega)
    by_cases zc : a (nI j).toNatClampNeg = c
    · obtain ⟨r, hX, hY⟩ := ih (by omega) (q + 1)
      exact ⟨r,
        fun post hp => br_f h0 (br_f h8 ⟨hi, fun y ey => br_t (ey.trans zc) (nm_e (nm_e (hX post hp)))⟩),
        fun post hp => br_f h0 (br_f h8 ⟨hi, fun y ey => br_t (ey.trans zc) (nm_e (nm_e (hY post hp)))⟩)⟩
    · by_cases zo : a (nI j).toNatClampNeg = o
      · by_cases zq : q - 1 = 0
        · exact ⟨nI j,
            fun post hp => br_f h0 (br_f h8 ⟨hi, fun y ey => br_f (fun z => zc (ey.symm.trans z)) (br_t (ey.trans zo) (nm_e (br_t zq hp)))⟩),
            fun post hp => br_f h0 (br_f h8 ⟨hi, fun y ey => br_f (fun z => zc (ey.symm.trans z)) (br_t (ey.trans zo) (nm_r (bm_m q) (br_t zq hp)))⟩)⟩
        · obtain ⟨r, hX, hY⟩ := ih (by omega) (q - 1)
          exact ⟨r,
            fun post hp => br_f h0 (br_f h8 ⟨hi, fun y ey => br_f (fun z => zc (ey.symm.trans z)) (br_t (ey.trans zo) (nm_e (br_f zq (nm_e (hX post hp)))))⟩),
            fun post hp => br_f h0 (br_f h8 ⟨hi, fun y ey => br_f (fun z => zc (ey.symm.trans z)) (br_t (ey.trans zo) (nm_r (bm_m q) (br_f zq (nm_e (hY post hp)))))⟩)⟩
      · obtain ⟨r, hX, hY⟩ := ih (by omega) q
        exact ⟨r,
          fun post hp => br_f h0 (br_f h8 ⟨hi, fun y ey => br_f (fun z => zc (ey.symm.trans z)) (br_f (fun z => zo (ey.symm.trans z)) (nm_e (hX post hp)))⟩),
          fun post hp => br_f h0 (br_f h8 ⟨hi, fun y ey => br_f (fun z => zc (ey.symm.trans z)) (br_f (fun z => zo (ey.symm.trans z)) (nm_e (hY post hp)))⟩)⟩
/-! ===== partner at an index within ===== -/
theorem bm_partner (a s : Nat → Int32) {j : Nat} (hj : j < 8) : ∃ r : Int32,
    (∀ post : Int32 → Prop, post r → wpX_partner post (a, s) (nI j)) ∧
    (∀ post : Int32 → Prop, post r → wpY_partner post (a, s) (nI j)) := by
  have h0 : ¬ nI j < 0 := nI_pos (by omega)
  have h7 : nI j ≤ 7 := nI_le (b := 7) (by omega) (by decide)
  have h8 : nI j < 8 := nI_lt (b := 8) (by omega) (by decide)
  have hi : vp_in (nI j) 8 := vp_in_nI (by omega) (by omega)
  by_cases z1 : a (nI j).toNatClampNeg = 40
  · obtain ⟨r, hX, hY⟩ := bm_up a s 40 41 (7 - j) (j + 1) (by omega) 1
    exact ⟨r,
      fun post hp => br_f h0 (br_t h7 ⟨hi, nm_r z1 (br_t rfl (nm_r (nI_1 j) ⟨_, hX post hp⟩))⟩),
      fun post hp => br_f h0 (br_t h8 ⟨hi, nm_r z1 (bm_k40 rfl (br_f (by decide) (br_f (by decide) (br_f (by decide) (nm_r (nI_1 j) ⟨_, hY post hp⟩)))))⟩)⟩
  by_cases z2 : a (nI j).toNatClampNeg = 91
  · obtain ⟨r, hX, hY⟩ := bm_up a s 91 93 (7 - j) (j + 1) (by omega) 1
    exact ⟨r,
      fun post hp => br_f h0 (br_t h7 ⟨hi, nm_r z2 (br_f (by decide) (br_t rfl (nm_r (nI_1 j) ⟨_, hX post hp⟩)))⟩),
      fun post hp => br_f h0 (br_t h8 ⟨hi, nm_r z2 (bm_k91 rfl (br_f (by decide) (br_f (by decide) (br_f (by decide) (nm_r (nI_1 j) ⟨_, hY post hp⟩)))))⟩)⟩
  by_cases z3 : a (nI j).toNatClampNeg = 123
  · obtain ⟨r, hX, hY⟩ := bm_up a s 123 125 (7 - j) (j + 1) (by omega) 1
    exact ⟨r,
      fun post hp => br_f h0 (br_t h7 ⟨hi, nm_r z3 (br_f (by decide) (br_f (by decide) (br_t rfl (nm_r (nI_1 j) ⟨_, hX post hp⟩))))⟩),
      fun post hp => br_f h0 (br_t h8 ⟨hi, nm_r z3 (bm_k123 rfl (br_f (by decide) (br_f (by decide) (br_f (by decide) (nm_r (nI_1 j) ⟨_, hY post hp⟩)))))⟩)⟩
  by_cases z4 : a (nI j).toNatClampNeg = 41
  · obtain ⟨r, hX, hY⟩ := bm_dn a s 41 40 j (by omega) 1
    exact ⟨r,
      fun post hp => br_f h0 (br_t h7 ⟨hi, nm_r z4 (br_f (by decide) (br_f (by decide) (br_f (by decide) (br_t rfl (nm_e ⟨_, hX post hp⟩)))))⟩),
      fun post hp => br_f h0 (br_t h8 ⟨hi, nm_r z4 (bm_k41 rfl (br_f (by decide) (br_t (by decide) (br_t (by decide) (nm_r (e' := 40) (by decide) (nm_e ⟨_, hY post hp⟩))))))⟩)⟩
  by_cases z5 : a (nI j).toNatClampNeg = 93
  · obtain ⟨r, hX, hY⟩ := bm_dn a s 93 91 j (by omega) 1
    exact ⟨r,
      fun post hp => br_f h0 (br_t h7 ⟨hi, nm_r z5 (br_f (by decide) (br_f (by decide) (br_f (by decide) (br_f (by decide) (br_t rfl (nm_e ⟨_, hX post hp⟩))))))⟩),
      fun post hp => br_f h0 (br_t h8 ⟨hi, nm_r z5 (bm_k93 rfl (br_f (by decide) (br_t (by decide) (br_t (by decide) (nm_r (e' := 91) (by decide) (nm_e ⟨_, hY post hp⟩))))))⟩)⟩
  by_cases z6 : a (nI j).toNatClampNeg = 125
  · obtain ⟨r, hX, hY⟩ := bm_dn a s 125 123 j (by omega) 1
    exact ⟨r,
      fun post hp => br_f h0 (br_t h7 ⟨hi, nm_r z6 (br_f (by decide) (br_f (by decide) (br_f (by decide) (br_f (by decide) (br_f (by decide) (br_t rfl (nm_e ⟨_, hX post hp⟩)))))))⟩),
      fun post hp => br_f h0 (br_t h8 ⟨hi, nm_r z6 (bm_k125 rfl (br_f (by decide) (br_t (by decide) (br_t (by decide) (nm_r (e' := 123) (by decide) (nm_e ⟨_, hY post hp⟩))))))⟩)⟩
  exact ⟨-1,
    fun post hp => br_f h0 (br_t h7 ⟨hi, nm_e (br_f z1 (br_f z2 (br_f z3 (br_f z4 (br_f z5 (br_f z6 hp))))))⟩),
    fun post hp => br_f h0 (br_t h8 ⟨hi, nm_e (bm_k0 z1 z2 z3 z4 z5 z6 (br_t rfl hp))⟩)⟩
end
section
/-! ===== balance, in lockstep: one answer and one end state for both ===== -/
def bm_ok (s : Nat → Int32) (sp : Nat) : Prop := ∀ m : Nat, m < sp → vp_in (s m) 8
/-- what both loops do from (sp, i): one answer r, one content s' of st -/
def bm_both (a s : Nat → Int32) (n sp i : Nat) : Prop := ∃ (r : Int32) (s' : Nat → Int32),
    (∀ post : Int32 → SX → Prop, post r (a, s') → wX_balance_4 post n (nI sp) (nI i) a s) ∧
    (∀ post : Int32 → SY → Prop, post r (a, s') → wY_balance_4 post n (nI sp) (nI i) a s)
theorem bm_byte : ∀ i : Nat, i < 8 → (nI i).toInt8.toInt32 = nI i := by decide +kernel
theorem bm_okU {s : Nat → Int32} {sp i : Nat} (h : bm_ok s sp) (hs : sp < 8) (hi : i < 8) : bm_ok (upd s (nI sp).toNatClampNeg (vp_nar .byte (nI i).toInt8.toInt32)) (sp + 1) := by
  intro m hm
  rw [nI_clamp (by omega), pk_vb, bm_byte i hi]
  by_cases e : m = sp
  · subst e
    rw [pk_us]
    exact vp_in_nI hi (by omega)
  · rw [pk_un e]
    exact h m (by omega)
/-- an opener, of whatever kind: both push -/
theorem bm_push {a s : Nat → Int32} {n sp i : Nat} (hs : sp < 8) (k : Int32) (hk : ¬ k ≤ 0) (h8 : ¬ (8 : Int32) ≤ nI i) (hi : vp_in (nI i) 8)
    (hx : ∀ post : Int32 → SX → Prop, wX_balance_35 post (wX_balance_4 post n) (nI sp) (nI i) a s → wX_balance_4 post (n + 1) (nI sp) (nI i) a s)
    (hy : ∀ P : Int32 → Prop, P k → wpY_kind P (a (nI i).toNatClampNeg))
    (ih : bm_both a (upd s (nI sp).toNatClampNeg (vp_nar .byte (nI i).toInt8.toInt32)) n (sp + 1) (i + 1)) : bm_both a s (n + 1) sp i := by
  obtain ⟨r, s', hX, hY⟩ := ih
  have hv : vp_in (nI sp) 8 := vp_in_nI hs (by omega)
  refine ⟨r, s', fun post hp => hx post (And.intro hv (nm_e (nm_r (nI_1 sp) (nm_r (nI_1 i) (hX post hp))))), fun post hp => br_f h8 ⟨hi, hy _ ?_⟩⟩
  exact br_f hk (nm_r (nI_1 sp) ⟨hv, nm_e (nm_r (nI_1 i) (hY post hp))⟩)
/-- a closer that wants w: both answer here, or both pop -/
theorem bm_pop {a s : Nat → Int32} {n sp i : Nat} (hs : sp ≤ 8) (ok : bm_ok s sp) (c w k : Int32) (hk : k ≤ 0) (hk' : ¬ 0 ≤ k) (hw : -k = w) (h8 : ¬ (8 : Int32) ≤ nI i) (hi : vp_in (nI i) 8)
    (hx : ∀ post : Int32 → SX → Prop, wX_balance_68 post (wX_balance_4 post n) (nI sp) (nI i) c a s → wX_balance_4 post (n + 1) (nI sp) (nI i) a s)
    (hx' : ∀ post : Int32 → SX → Prop, ¬ nI sp = 0 → wX_balance_104 post (wX_balance_4 post n) (nI sp) (nI i) w a s → wX_balance_68 post (wX_balance_4 post n) (nI sp) (nI i) c a s)
    (hy : ∀ P : Int32 → Prop, P k → wpY_kind P (a (nI i).toNatClampNeg))
    (ih : ∀ m : Nat, sp = m + 1 → bm_both a s n m (i + 1)) : bm_both a s (n + 1) sp i := by
  subst hw
  cases sp with
  | zero =>
    exact ⟨nI i, s, fun post hp => hx post (br_t nI_0 hp), fun post hp => br_f h8 ⟨hi, hy _ (br_t hk (br_f hk' (br_t nI_0 hp)))⟩⟩
  | succ m =>
    have hz : ¬ nI (m + 1) = 0 := nI_ne0 (by omega) (by omega)
    have h1 : vp_in (nI (m + 1) - 1) 8 := by
      rw [nI_pred]
      exact vp_in_nI (by omega) (by omega)
    have h2 : vp_in (s (nI (m + 1) - 1).toNatClampNeg) 8 := by
      rw [nI_pred, nI_clamp (by omega)]
      exact ok m (by omega)
    by_cases e : a (s (nI (m + 1) - 1).toNatClampNeg).toNatClampNeg = -k
    · obtain ⟨r, s', hX, hY⟩ := ih m rfl
      refine ⟨r, s', fun post hp => hx post (hx' post hz ?_), fun post hp => br_f h8 ⟨hi, hy _ (br_t hk (br_f hk' (br_f hz ⟨h1, h2, ?_⟩)))⟩⟩
      · exact And.intro h1 (And.intro h2 (br_t e (nm_r (nI_pred m) (nm_r (nI_1 i) (hX post hp)))))
      · exact br_t e (nm_r (pk_m1 m) (nm_r (nI_1 i) (hY post hp)))
    · refine ⟨nI i, s, fun post hp => hx post (hx' post hz ?_), fun post hp => br_f h8 ⟨hi, hy _ (br_t hk (br_f hk' (br_f hz ⟨h1, h2, ?_⟩)))⟩⟩
      · exact And.intro h1 (And.intro h2 (br_f e hp))
      · exact br_f e hp
theorem bm_bal (a : Nat → Int32) : ∀ d i : Nat, i + d = 8 → ∀ (sp : Nat) (s : Nat → Int32), sp ≤ i → bm_ok s sp → bm_both a s (d + 1) sp i := by
  intro d
  induction d with
  | zero =>
    intro i hd sp s hs ok
    have h8 : (8 : Int32) ≤ nI i := bm_le (by omega) (by omega)
    by_cases z : nI sp = 0
    · exact ⟨-1, s, fun post hp => br_t h8 (br_t z hp), fun post hp => br_t h8 (br_t z hp)⟩
    · exact ⟨s 0, s, fun post hp => br_t h8 (br_f z hp), fun post hp => br_t h8 (br_f z hp)⟩
  | succ d ih =>
    intro i hd sp s hs ok
    have h8 : ¬ (8 : Int32) ≤ nI i := bm_ge (by omega)
    have hi : vp_in (nI i) 8 := vp_in_nI (by omega) (by omega)
    have io : bm_both a (upd s (nI sp).toNatClampNeg (vp_nar .byte (nI i).toInt8.toInt32)) (d + 1) (sp + 1) (i + 1) := ih (i + 1) (by omega) (sp + 1) _ (by omega) (bm_okU ok (by omega) (by omega))
    have ic : ∀ m : Nat, sp = m + 1 → bm_both a s (d + 1) m (i + 1) := fun m hm => ih (i + 1) (by omega) m s (by omega) (fun q hq => ok q (by omega))
    by_cases z1 : a (nI i).toNatClampNeg = 40
    · exact bm_push (by omega) 41 (by decide) h8 hi (fun post h => br_f h8 ⟨hi, nm_r z1 (br_t rfl h)⟩) (fun P h => bm_k40 z1 h) io
    by_cases z2 : a (nI i).toNatClampNeg = 91
    · exact bm_push (by omega) 93 (by decide) h8 hi (fun post h => br_f h8 ⟨hi, nm_r z2 (br_f (by decide) (br_t rfl h))⟩) (fun P h => bm_k91 z2 h) io
    by_cases z3 : a (nI i).toNatClampNeg = 123
    · exact bm_push (by omega) 125 (by decide) h8 hi (fun post h => br_f h8 ⟨hi, nm_r z3 (br_f (by decide) (br_f (by decide) (br_t rfl h)))⟩) (fun P h => bm_k123 z3 h) io
    by_cases z4 : a (nI i).toNatClampNeg = 41
    · exact bm_pop (by omega) ok 41 40 (-40) (by decide) (by decide) (by decide) h8 hi (fun post h => br_f h8 ⟨hi, nm_r z4 (br_f (by decide) (br_f (by decide) (br_f (by decide) (br_t rfl h))))⟩) (fun post hz h => br_f hz (br_t rfl h)) (fun P h => bm_k41 z4 h) ic
    by_cases z5 : a (nI i).toNatClampNeg = 93
    · exact bm_pop (by omega) ok 93 91 (-91) (by decide) (by decide) (by decide) h8 hi (fun post h => br_f h8 ⟨hi, nm_r z5 (br_f (by decide) (br_f (by decide) (br_f (by decide) (br_f (by decide) (br_t rfl h)))))⟩) (fun post hz h => br_f hz (br_f (by decide) (br_t rfl h))) (fun P h => bm_k93 z5 h) ic
    by_cases z6 : a (nI i).toNatClampNeg = 125
    · exact bm_pop (by omega) ok 125 123 (-123) (by decide) (by decide) (by decide) h8 hi (fun post h => br_f h8 ⟨hi, nm_r z6 (br_f (by decide) (br_f (by decide) (br_f (by decide) (br_f (by decide) (br_f (by decide) (br_t rfl h))))))⟩) (fun post hz h => br_f hz (br_f (by decide) (br_f (by decide) h))) (fun P h => bm_k125 z6 h) ic
    obtain ⟨r, s', hX, hY⟩ := ih (i + 1) (by omega) sp s (by omega) ok
    exact ⟨r, s',
      fun post hp => br_f h8 ⟨hi, nm_e (br_f z1 (br_f z2 (br_f z3 (br_f z4 (br_f z5 (br_f z6 (nm_r (nI_1 i) (hX post hp))))))))⟩,
      fun post hp => br_f h8 ⟨hi, bm_k0 z1 z2 z3 z4 z5 z6 (br_t (by decide) (br_t (by decide) (nm_r (nI_1 i) (hY post hp))))⟩⟩
end
section
/-- the two objects hold the same text, and the same (stale or not) stack -/
def i_Rel (_ : Nat) (u : SX) (v : SY) : Prop := u = v
theorem i_up {k : Nat} {u : SX} {v : SY} (h : i_Rel k u v) : i_Rel (k + 3) u v := h
theorem i_vc0 : wpX_init (fun u => wpY_init (fun v => i_Rel 0 u v)) := rfl
/-- an int is below 0, or one of 0 to 7, or above 7: as both classes ask it -/
theorem bm_ix (x : Int32) : x < 0 ∨ (∃ j : Nat, j < 8 ∧ x = nI j) ∨ (¬ x < 0 ∧ ¬ x ≤ 7 ∧ ¬ x < 8) := by
  by_cases h0 : x < 0
  · exact Or.inl h0
  · obtain ⟨j, hj, rfl⟩ := nI_of h0
    by_cases h : j < 8
    · exact Or.inr (Or.inl ⟨j, h, rfl⟩)
    · exact Or.inr (Or.inr ⟨h0, nI_ge (a := 7) (by omega) hj, nI_nlt (b := 8) (by omega) hj⟩)
theorem i_vc_put {k : Nat} {u : SX} {v : SY} (I : i_Rel k u v) (hk : k + 3 ≤ 1536) (v1 : Int32) (v2 : Int32) : wpX_put (fun r u' => wpY_put (fun r' v' => r' = r ∧ i_Rel (k + 3) u' v') v v1 v2) u v1 v2 := by
  cases I
  obtain ⟨a, s⟩ := u
  rcases bm_ix v1 with h0 | ⟨j, hj, rfl⟩ | ⟨h0, h7, h8⟩
  · exact br_t h0 (br_t h0 ⟨rfl, rfl⟩)
  · have h0 : ¬ nI j < 0 := nI_pos (by omega)
    have h7 : nI j ≤ 7 := nI_le (b := 7) (by omega) (by decide)
    have h8 : nI j < 8 := nI_lt (b := 8) (by omega) (by decide)
    have hi : vp_in (nI j) 8 := vp_in_nI (by omega) (by omega)
    exact br_f h0 (br_t h7 ⟨hi, nm_e ⟨hi, br_f h0 (br_t h8 ⟨hi, nm_e ⟨by rw [pk_us, pk_vc], rfl⟩⟩)⟩⟩)
  · exact br_f h0 (br_f h7 (br_f h0 (br_f h8 ⟨rfl, rfl⟩)))
theorem i_vc_at {k : Nat} {u : SX} {v : SY} (I : i_Rel k u v) (hk : k + 3 ≤ 1536) (v1 : Int32) : wpX_at (fun r => wpY_at (fun r' => r' = r ∧ i_Rel (k + 3) u v) v v1) u v1 := by
  cases I
  obtain ⟨a, s⟩ := u
  rcases bm_ix v1 with h0 | ⟨j, hj, rfl⟩ | ⟨h0, h7, h8⟩
  · exact br_t h0 (br_t h0 ⟨rfl, rfl⟩)
  · have h0 : ¬ nI j < 0 := nI_pos (by omega)
    have h7 : nI j ≤ 7 := nI_le (b := 7) (by omega) (by decide)
    have h8 : nI j < 8 := nI_lt (b := 8) (by omega) (by decide)
    have hi : vp_in (nI j) 8 := vp_in_nI (by omega) (by omega)
    exact br_f h0 (br_t h7 ⟨hi, br_f h0 (br_t h8 ⟨hi, rfl, rfl⟩)⟩)
  · exact br_f h0 (br_f h7 (br_f h0 (br_f h8 ⟨rfl, rfl⟩)))
theorem i_vc_partner {k : Nat} {u : SX} {v : SY} (I : i_Rel k u v) (hk : k + 3 ≤ 1536) (v1 : Int32) : wpX_partner (fun r => wpY_partner (fun r' => r' = r ∧ i_Rel (k + 3) u v) v v1) u v1 := by
  cases I
  obtain ⟨a, s⟩ := u
  rcases bm_ix v1 with h0 | ⟨j, hj, rfl⟩ | ⟨h0, h7, h8⟩
  · exact br_t h0 (br_t h0 ⟨rfl, rfl⟩)
  · obtain ⟨r, hX, hY⟩ := bm_partner a s hj
    exact hX _ (hY _ ⟨rfl, rfl⟩)
  · exact br_f h0 (br_f h7 (br_f h0 (br_f h8 ⟨rfl, rfl⟩)))
theorem i_vc_balance {k : Nat} {u : SX} {v : SY} (I : i_Rel k u v) (hk : k + 3 ≤ 1536) : wpX_balance (fun r u' => wpY_balance (fun r' v' => r' = r ∧ i_Rel (k + 3) u' v') v) u := by
  cases I
  obtain ⟨a, s⟩ := u
  obtain ⟨r, s', hX, hY⟩ := bm_bal a 8 0 rfl 0 s (Nat.le_refl 0) (fun m hm => absurd hm (Nat.not_lt_zero m))
  rw [nI_0] at hX hY
  exact ⟨9, hX _ ⟨9, hY _ ⟨rfl, rfl⟩⟩⟩
end
