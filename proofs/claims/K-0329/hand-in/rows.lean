section
/-! rows pasted from the kit's starting text PURE-ROWS (names pk_) -/
theorem pk_us {f : Nat → Int32} {k : Nat} {x : Int32} : upd f k x k = x := if_pos rfl
theorem pk_un {f : Nat → Int32} {k j : Nat} {x : Int32} (h : j ≠ k) : upd f k x j = f j := if_neg h
theorem pk_sub {a b : Nat} (h : b ≤ a) : nI a - nI b = nI (a - b) := by
  obtain ⟨c, rfl⟩ : ∃ c, a = c + b := ⟨a - b, by omega⟩
  rw [← nI_add, Int32.add_sub_cancel, Nat.add_sub_cancel]
theorem pk_mul (a b : Nat) : nI a * nI b = nI (a * b) := (Int32.ofNat_mul a b).symm
theorem pk_tn {n : Nat} (h : n < 2 ^ 32) : (nI n).toBitVec.toNat = n := Nat.mod_eq_of_lt h
theorem pk_charN {q : Nat} (hq : q < 65536) : narrow .char (.int (nI q)) = .int (nI q) ∧ fits .char (.int (nI q)) = true := by
  constructor
  · have e : (nI q).toUInt32.toUInt16.toUInt32.toInt32 = nI q := by
      apply Int32.toBitVec_inj.mp
      apply BitVec.eq_of_toNat_eq
      show (nI q).toUInt32.toUInt16.toUInt32.toNat = q % 2 ^ 32
      rw [UInt16.toNat_toUInt32, UInt32.toNat_toUInt16, show (nI q).toUInt32.toNat = q % 2 ^ 32 from rfl]
      omega
    exact congrArg Value.int e
  · have a : (0 : Int32) ≤ nI q := nI_pos' (by omega)
    have b : nI q ≤ 65535 := nI_le (b := 65535) (by omega) (by decide)
    show (decide ((0 : Int32) ≤ nI q) && decide (nI q ≤ 65535)) = true
    rw [decide_eq_true a, decide_eq_true b]
    rfl
theorem pk_char (x : Int32) : (x.toUInt32 % 65536).toInt32 = nI (x.toBitVec.toNat % 65536) := by
  apply Int32.toBitVec_inj.mp
  apply BitVec.eq_of_toNat_eq
  rw [pk_tn (by omega)]
  show (x.toUInt32 % 65536).toNat = _
  rw [UInt32.toNat_mod]
  rfl
end
section
/-! ===== numbers: the char cast, the accumulator ===== -/
theorem sj_w (v : Int32) : ∃ w : Nat, w < 65536 ∧ lw_u16 v = nI w :=
  ⟨v.toBitVec.toNat % 65536, Nat.mod_lt _ (by decide), pk_char v⟩
theorem sj_cast {q : Nat} (hq : q < 65536) : ((nI q).toUInt32 % 65536).toInt32 = nI q := by
  rw [pk_char, pk_tn (by omega), Nat.mod_eq_of_lt hq]
theorem sj_step {a e : Nat} (h : a * 16 + e < 65536) : ((nI a * 16 + nI e).toUInt32 % 65536).toInt32 = nI (a * 16 + e) := by
  have q : nI a * 16 + nI e = nI (a * 16 + e) := by
    show nI a * nI 16 + nI e = _
    rw [pk_mul, nI_add]
  rw [q, sj_cast h]
theorem sj_nar {w : Nat} (hw : w < 65536) : vp_nar .char (nI w) = nI w := Value.int.inj (pk_charN hw).1
/-- the char c is the hex digit d: the reference's val answers d there -/
def sj_dig (c : Int32) (d : Nat) : Prop := d < 16 ∧ ∀ post : Int32 → Prop, post (nI d) → wpY_val post c
/-- the number of the first n digits of d -/
def sj_acc (d : Nat → Nat) : Nat → Nat
  | 0 => 0
  | n + 1 => sj_acc d n * 16 + d n
theorem sj_acc_lt {d : Nat → Nat} : ∀ n : Nat, (∀ j, j < n → d j < 16) → sj_acc d n < 16 ^ n
  | 0, _ => Nat.one_pos
  | n + 1, h => by
    have a := sj_acc_lt n (fun j hj => h j (Nat.lt_succ_of_lt hj))
    have b := h n (Nat.lt_succ_self n)
    show sj_acc d n * 16 + d n < 16 ^ (n + 1)
    rw [Nat.pow_succ]
    omega
theorem sj_acc_eq {d e : Nat → Nat} : ∀ n : Nat, (∀ j, j < n → d j = e j) → sj_acc d n = sj_acc e n
  | 0, _ => rfl
  | n + 1, h => by
    show sj_acc d n * 16 + d n = sj_acc e n * 16 + e n
    rw [sj_acc_eq n (fun j hj => h j (Nat.lt_succ_of_lt hj)), h n (Nat.lt_succ_self n)]
theorem sj_acc_push {d : Nat → Nat} {n e : Nat} : sj_acc (fun j => if j = n then e else d j) (n + 1) = sj_acc d n * 16 + e := by
  show sj_acc (fun j => if j = n then e else d j) n * 16 + (if n = n then e else d n) = _
  rw [if_pos rfl, sj_acc_eq (e := d) n (fun j hj => if_neg (Nat.ne_of_lt hj))]
theorem sj_four (d : Nat → Nat) : nI (d 0) * 4096 + nI (d 1) * 256 + nI (d 2) * 16 + nI (d 3) = nI (sj_acc d 4) := by
  show nI (d 0) * nI 4096 + nI (d 1) * nI 256 + nI (d 2) * nI 16 + nI (d 3) = _
  rw [pk_mul, pk_mul, pk_mul, nI_add, nI_add, nI_add]
  refine congrArg nI ?_
  show _ = (((0 * 16 + d 0) * 16 + d 1) * 16 + d 2) * 16 + d 3
  omega
/-! ===== a char: a digit for both sides, or for neither ===== -/
theorem sj_cls (w : Nat) (hw : w < 65536) :
    (∃ d : Nat, sj_dig (nI w) d ∧ ∀ (post : Int32 → SX → Prop) (a n h : Int32), ¬ n = 4 → wX_hex_79 post (nI d) a n h → wpX_hex post (a, n, h) (nI w))
    ∨ ((∀ post : Int32 → Prop, post (-1) → wpY_val post (nI w)) ∧ ∀ (post : Int32 → SX → Prop) (a n h : Int32), ¬ n = 4 → post (-1) (a, n, h) → wpX_hex post (a, n, h) (nI w)) := by
  have L : ∀ b : Nat, b < 1000 → w < b → nI w < nI b := fun b hb h => nI_lt h (by omega)
  have NL : ∀ b : Nat, b < 1000 → b ≤ w → ¬ nI w < nI b := fun b hb h => nI_nlt h (by omega)
  have G : ∀ b : Nat, b < w → nI b < nI w := fun b h => nI_lt h (by omega)
  have NG : ∀ b : Nat, b < 1000 → w ≤ b → ¬ nI b < nI w := fun b hb h => nI_nlt h (by omega)
  rcases Nat.lt_or_ge w 48 with h48 | h48
  · have a1 : nI w < 48 := L 48 (by decide) h48
    have a2 : nI w < 65 := L 65 (by decide) (by omega)
    have a3 : nI w < 97 := L 97 (by decide) (by omega)
    exact Or.inr ⟨fun post hp => br_t a1 (br_t a2 (br_t a3 hp)), fun post a n h hn hp => br_f hn (br_t a1 (br_t a2 (br_t a3 hp)))⟩
  have b1 : ¬ nI w < 48 := NL 48 (by decide) h48
  rcases Nat.lt_or_ge 57 w with h57 | h57
  · have a1 : 57 < nI w := G 57 h57
    rcases Nat.lt_or_ge w 65 with h65 | h65
    · have a2 : nI w < 65 := L 65 (by decide) h65
      have a3 : nI w < 97 := L 97 (by decide) (by omega)
      exact Or.inr ⟨fun post hp => br_f b1 (br_t a1 (br_t a2 (br_t a3 hp))), fun post a n h hn hp => br_f hn (br_f b1 (br_t a1 (br_t a2 (br_t a3 hp))))⟩
    have b2 : ¬ nI w < 65 := NL 65 (by decide) h65
    rcases Nat.lt_or_ge 70 w with h70 | h70
    · have a2 : 70 < nI w := G 70 h70
      rcases Nat.lt_or_ge w 97 with h97 | h97
      · have a3 : nI w < 97 := L 97 (by decide) h97
        exact Or.inr ⟨fun post hp => br_f b1 (br_t a1 (br_f b2 (br_t a2 (br_t a3 hp)))), fun post a n h hn hp => br_f hn (br_f b1 (br_t a1 (br_f b2 (br_t a2 (br_t a3 hp)))))⟩
      have b3 : ¬ nI w < 97 := NL 97 (by decide) h97
      rcases Nat.lt_or_ge 102 w with h102 | h102
      · have a3 : 102 < nI w := G 102 h102
        exact Or.inr ⟨fun post hp => br_f b1 (br_t a1 (br_f b2 (br_t a2 (br_f b3 (br_t a3 hp))))), fun post a n h hn hp => br_f hn (br_f b1 (br_t a1 (br_f b2 (br_t a2 (br_f b3 (br_t a3 hp))))))⟩
      · have a3 : ¬ 102 < nI w := NG 102 (by decide) h102
        have eY : nI w - 87 = nI (w - 87) := pk_sub (b := 87) (by omega)
        have eX : nI w - 97 + 10 = nI (w - 87) := by
          show nI w - nI 97 + nI 10 = _
          rw [pk_sub h97, nI_add]
          exact congrArg nI (by omega)
        exact Or.inl ⟨w - 87, ⟨by omega, fun post hp => br_f b1 (br_t a1 (br_f b2 (br_t a2 (br_f b3 (br_f a3 (by rw [eY]; exact hp))))))⟩, fun post a n h hn hp => br_f hn (br_f b1 (br_t a1 (br_f b2 (br_t a2 (br_f b3 (br_f a3 (nm_r eX hp)))))))⟩
    · have a2 : ¬ 70 < nI w := NG 70 (by decide) h70
      have eY : nI w - 55 = nI (w - 55) := pk_sub (b := 55) (by omega)
      have eX : nI w - 65 + 10 = nI (w - 55) := by
        show nI w - nI 65 + nI 10 = _
        rw [pk_sub h65, nI_add]
        exact congrArg nI (by omega)
      exact Or.inl ⟨w - 55, ⟨by omega, fun post hp => br_f b1 (br_t a1 (br_f b2 (br_f a2 (by rw [eY]; exact hp))))⟩, fun post a n h hn hp => br_f hn (br_f b1 (br_t a1 (br_f b2 (br_f a2 (nm_r eX hp)))))⟩
  · have a1 : ¬ 57 < nI w := NG 57 (by decide) h57
    have eY : nI w - 48 = nI (w - 48) := pk_sub (b := 48) h48
    exact Or.inl ⟨w - 48, ⟨by omega, fun post hp => br_f b1 (br_f a1 (by rw [eY]; exact hp))⟩, fun post a n h hn hp => br_f hn (br_f b1 (br_f a1 (nm_r eY hp)))⟩
/-! ===== a unit: one outcome for both sides ===== -/
/-- the reference's unit behind its four digits, the number named -/
def sj_tail (post : Int32 → SY → Prop) (x g : Int32) (b : Nat → Int32) : Prop :=
  (x < 56320 → wY_unit_83 post x 0 g b) ∧ (¬ x < 56320 → ((57343 < x → wY_unit_83 post x 0 g b) ∧ (¬ 57343 < x → wY_unit_84 post x 1 0 g b)))
theorem sj_one : ¬ (1 : Int32) = 0 := by decide
theorem sj_unit (a h : Nat) (ha : a < 65536) (hh : h < 65536) :
    ∃ (r : Int32) (h' : Nat), h' < 65536 ∧ (∀ post : Int32 → SX → Prop, post r (0, 0, nI h') → wpX_unit post (nI a, nI 4, nI h))
      ∧ (∀ (post : Int32 → SY → Prop) (b : Nat → Int32), post r (0, nI h', b) → sj_tail post (nI a) (nI h) b) := by
  have L : ∀ b : Nat, b < 65536 → a < b → nI a < nI b := fun b hb h => nI_lt h (by omega)
  have NL : ∀ b : Nat, b ≤ a → ¬ nI a < nI b := fun b h => nI_nlt h (by omega)
  have G : ∀ b : Nat, b < a → nI b < nI a := fun b h => nI_lt h (by omega)
  have NG : ∀ b : Nat, b < 65536 → a ≤ b → ¬ nI b < nI a := fun b hb h => nI_nlt h (by omega)
  have c4 : nI 4 = 4 := by decide
  rcases Nat.lt_or_ge a 55296 with k1 | k1
  · have p1 : nI a < 55296 := L 55296 (by decide) k1
    have p2 : nI a < 56320 := L 56320 (by decide) (by omega)
    rcases Nat.eq_zero_or_pos h with z | z
    · have q : nI h = 0 := by rw [z, nI_0]
      exact ⟨nI a, h, hh, fun post hp => br_t c4 (br_t p1 (br_t p2 (br_t q (br_t rfl (br_t rfl hp))))), fun post b hp => br_t p2 (br_t q (br_t rfl (br_t p1 hp)))⟩
    · have q : ¬ nI h = 0 := nI_ne0 z (by omega)
      exact ⟨-2, 0, by decide, fun post hp => br_t c4 (br_t p1 (br_t p2 (br_f q (br_t rfl hp)))), fun post b hp => br_t p2 (br_f q (br_t rfl hp))⟩
  have n1 : ¬ nI a < 55296 := NL 55296 k1
  rcases Nat.lt_or_ge 56319 a with k2 | k2
  · have p2 : 56319 < nI a := G 56319 k2
    have n2 : ¬ nI a < 56320 := NL 56320 (by omega)
    rcases Nat.lt_or_ge 57343 a with k3 | k3
    · have p3 : 57343 < nI a := G 57343 k3
      rcases Nat.eq_zero_or_pos h with z | z
      · have q : nI h = 0 := by rw [z, nI_0]
        exact ⟨nI a, h, hh, fun post hp => br_t c4 (br_f n1 (br_t p2 (br_f n2 (br_t p3 (br_t q (br_t rfl (br_t rfl hp))))))), fun post b hp => br_f n2 (br_t p3 (br_t q (br_t rfl (br_f n1 (br_t p2 hp)))))⟩
      · have q : ¬ nI h = 0 := nI_ne0 z (by omega)
        exact ⟨-2, 0, by decide, fun post hp => br_t c4 (br_f n1 (br_t p2 (br_f n2 (br_t p3 (br_f q (br_t rfl hp)))))), fun post b hp => br_f n2 (br_t p3 (br_f q (br_t rfl hp)))⟩
    · have n3 : ¬ 57343 < nI a := NG 57343 (by decide) k3
      rcases Nat.eq_zero_or_pos h with z | z
      · have q : nI h = 0 := by rw [z, nI_0]
        exact ⟨-2, h, hh, fun post hp => br_t c4 (br_f n1 (br_t p2 (br_f n2 (br_f n3 (br_t q (br_t rfl (br_f sj_one hp))))))), fun post b hp => br_f n2 (br_f n3 (br_t q (br_f sj_one hp)))⟩
      · have q : ¬ nI h = 0 := nI_ne0 z (by omega)
        exact ⟨(65536 + ((nI h - 55296) * 1024)) + (nI a - 56320), 0, by decide, fun post hp => br_t c4 (br_f n1 (br_t p2 (br_f n2 (br_f n3 (br_f q (br_f sj_one hp)))))), fun post b hp => br_f n2 (br_f n3 (br_f q (br_f sj_one hp)))⟩
  · have n2 : ¬ 56319 < nI a := NG 56319 (by decide) k2
    have p2 : nI a < 56320 := L 56320 (by decide) (by omega)
    rcases Nat.eq_zero_or_pos h with z | z
    · have q : nI h = 0 := by rw [z, nI_0]
      exact ⟨-1, a, ha, fun post hp => br_t c4 (br_f n1 (br_f n2 (br_t p2 (br_t q (br_f sj_one (nm_r (sj_cast ha) ⟨(pk_charN ha).1, (pk_charN ha).2, hp⟩)))))), fun post b hp => br_t p2 (br_t q (br_t rfl (br_f n1 (br_f n2 hp))))⟩
    · have q : ¬ nI h = 0 := nI_ne0 z (by omega)
      exact ⟨-2, 0, by decide, fun post hp => br_t c4 (br_f n1 (br_f n2 (br_t p2 (br_f q (br_t rfl hp))))), fun post b hp => br_t p2 (br_f q (br_t rfl hp))⟩
end
section
/-- the relation: the counts and the pending highs agree; the reference's buffer holds the first n digits, the component's accumulator their number -/
def i_Rel (_ : Nat) (u : SX) (v : SY) : Prop :=
  ∃ (n h : Nat) (d : Nat → Nat) (b : Nat → Int32), u = (nI (sj_acc d n), nI n, nI h) ∧ v = (nI n, nI h, b) ∧ n ≤ 4 ∧ h < 65536 ∧ ∀ j, j < n → sj_dig (b j) (d j)
theorem i_up {k : Nat} {u : SX} {v : SY} (h : i_Rel k u v) : i_Rel (k + 2) u v := h
theorem i_vc0 : wpX_init (fun u => wpY_init (fun v => i_Rel 0 u v)) :=
  ⟨0, 0, fun _ => 0, fun _ => 0, rfl, rfl, by decide, by decide, fun j hj => absurd hj (Nat.not_lt_zero j)⟩
theorem sj_n4 {n : Nat} (h : n < 4) : ¬ nI n = 4 := by
  intro z
  have q : n = 4 := (nI_eq (a := n) (b := 4) (by omega) (by decide)).mp z
  omega
theorem sj_b {d : Nat → Nat} {n e : Nat} (hn : n < 4) (h : ∀ j, j < n → d j < 16) (he : e < 16) : sj_acc d n * 16 + e < 65536 := by
  have a := sj_acc_lt n h
  have b : 16 ^ n ≤ 16 ^ 3 := Nat.pow_le_pow_right (by decide) (by omega)
  omega
theorem i_vc_hex {k : Nat} {u : SX} {v : SY} (I : i_Rel k u v) (hk : k + 2 ≤ 1024) (v1 : Int32) : wpX_hex (fun r u' => wpY_hex (fun r' v' => r' = r ∧ i_Rel (k + 2) u' v') v (lw_u16 v1)) u (lw_u16 v1) := by
  obtain ⟨n, h, d, b, rfl, rfl, hn, hh, hd⟩ := I
  obtain ⟨w, hw, ew⟩ := sj_w v1
  rw [ew]
  rcases Nat.lt_or_ge n 4 with h4 | h4
  · have n4 : ¬ nI n = 4 := sj_n4 h4
    rcases sj_cls w hw with ⟨e, he, hX⟩ | ⟨hY, hX⟩
    · refine hX _ _ _ _ n4 ?_
      have hb : sj_acc d n * 16 + e < 65536 := sj_b h4 (fun j hj => (hd j hj).1) he.1
      refine nm_r (sj_step hb) ⟨(pk_charN hb).1, (pk_charN hb).2, nm_r (nI_1 n) ?_⟩
      show wpY_hex _ _ _
      refine br_f n4 (he.2 _ (br_t (nI_pos' (by have := he.1; omega)) ⟨vp_in_nI h4 (by decide), nm_r (e' := upd b n (nI w)) (by rw [nI_clamp (by omega), sj_nar hw]) (nm_r (nI_1 n) ⟨rfl, ?_⟩)⟩))
      refine ⟨n + 1, h, fun j => if j = n then e else d j, upd b n (nI w), by rw [sj_acc_push], rfl, h4, hh, fun j hj => ?_⟩
      show sj_dig (upd b n (nI w) j) (if j = n then e else d j)
      by_cases z : j = n
      · rw [z, pk_us, if_pos rfl]
        exact he
      · rw [pk_un z, if_neg z]
        exact hd j (by omega)
    · refine hX _ _ _ _ n4 ?_
      show wpY_hex _ _ _
      exact br_f n4 (hY _ (br_f (by decide) ⟨rfl, n, h, d, b, rfl, rfl, hn, hh, hd⟩))
  · obtain rfl : n = 4 := by omega
    have c4 : nI 4 = 4 := by decide
    exact br_t c4 (br_t c4 ⟨rfl, 4, h, d, b, rfl, rfl, hn, hh, hd⟩)
theorem i_vc_unit {k : Nat} {u : SX} {v : SY} (I : i_Rel k u v) (hk : k + 2 ≤ 1024) : wpX_unit (fun r u' => wpY_unit (fun r' v' => r' = r ∧ i_Rel (k + 2) u' v') v) u := by
  obtain ⟨n, h, d, b, rfl, rfl, hn, hh, hd⟩ := I
  rcases Nat.lt_or_ge n 4 with h4 | h4
  · have n4 : ¬ nI n = 4 := sj_n4 h4
    exact br_f n4 (br_f n4 ⟨rfl, n, h, d, b, rfl, rfl, hn, hh, hd⟩)
  · obtain rfl : n = 4 := by omega
    have c4 : nI 4 = 4 := by decide
    have ha : sj_acc d 4 < 65536 := sj_acc_lt 4 (fun j hj => (hd j hj).1)
    obtain ⟨r, h', hh', hX, hY⟩ := sj_unit (sj_acc d 4) h ha hh
    refine hX _ ?_
    show wpY_unit _ _
    refine br_t c4 ((hd 0 (by decide)).2 _ ((hd 1 (by decide)).2 _ ((hd 2 (by decide)).2 _ ((hd 3 (by decide)).2 _ (nm_r (sj_four d) ?_)))))
    exact hY _ b ⟨rfl, 0, h', d, b, rfl, rfl, by decide, hh', fun j hj => absurd hj (Nat.not_lt_zero j)⟩
theorem i_vc_pending {k : Nat} {u : SX} {v : SY} (I : i_Rel k u v) (hk : k + 2 ≤ 1024) : wpX_pending (fun r => wpY_pending (fun r' => r' = r ∧ i_Rel (k + 2) u v) v) u := by
  have J : i_Rel (k + 2) u v := I
  obtain ⟨n, h, d, b, rfl, rfl, hn, hh, hd⟩ := I
  by_cases z : nI h = 0
  · exact br_t z (br_t z ⟨rfl, J⟩)
  · exact br_f z (br_f z ⟨rfl, J⟩)
theorem i_vc_digits {k : Nat} {u : SX} {v : SY} (I : i_Rel k u v) (hk : k + 2 ≤ 1024) : wpX_digits (fun r => wpY_digits (fun r' => r' = r ∧ i_Rel (k + 2) u v) v) u := by
  have J : i_Rel (k + 2) u v := I
  obtain ⟨n, h, d, b, rfl, rfl, hn, hh, hd⟩ := I
  exact ⟨rfl, J⟩
end
