section
theorem pk_us {f : Nat → Int32} {k : Nat} {x : Int32} : upd f k x k = x := if_pos rfl
theorem pk_un {f : Nat → Int32} {k j : Nat} {x : Int32} (h : j ≠ k) : upd f k x j = f j := if_neg h
theorem pk_sub {a b : Nat} (h : b ≤ a) : nI a - nI b = nI (a - b) := by
  obtain ⟨c, rfl⟩ : ∃ c, a = c + b := ⟨a - b, by omega⟩
  rw [← nI_add, Int32.add_sub_cancel, Nat.add_sub_cancel]
theorem pk_tn {n : Nat} (h : n < 2 ^ 32) : (nI n).toBitVec.toNat = n := Nat.mod_eq_of_lt h
theorem pk_and (x : Int32) {m : Int32} (k : Nat) (hm : m.toBitVec.toNat = 2 ^ k - 1) : x &&& m = nI (x.toBitVec.toNat % 2 ^ k) := by
  apply Int32.toBitVec_inj.mp
  apply BitVec.eq_of_toNat_eq
  rw [Int32.toBitVec_and, BitVec.toNat_and, hm, Nat.and_two_pow_sub_one_eq_mod]
  show _ = (BitVec.ofNat 32 _).toNat
  rw [BitVec.toNat_ofNat]
  exact (Nat.mod_eq_of_lt (Nat.lt_of_le_of_lt (Nat.mod_le _ _) x.toBitVec.isLt)).symm
theorem pk_andN {n : Nat} (h : n < 2 ^ 32) {m : Int32} (k : Nat) (hm : m.toBitVec.toNat = 2 ^ k - 1) : nI n &&& m = nI (n % 2 ^ k) := by
  rw [pk_and _ k hm, pk_tn h]
theorem wb_tb (n : Nat) : (lN n).toBitVec = BitVec.ofNat 64 n := rfl
theorem wb_inj {a b : Int64} (h : a.toBitVec = b.toBitVec) : a = b := Int64.toBitVec_inj.mp h
theorem wb_tn {n : Nat} (h : n < 2 ^ 64) : (lN n).toBitVec.toNat = n := by rw [wb_tb, BitVec.toNat_ofNat, Nat.mod_eq_of_lt h]
theorem wb_lt2 {a b : Nat} (h : a < b) : 2 ^ a < 2 ^ b := Nat.pow_lt_pow_right (by decide) h
theorem wb_and {a b : Nat} (ha : a < 2 ^ 64) (hb : b < 2 ^ 64) : lN a &&& lN b = lN (a &&& b) := by
  apply wb_inj
  rw [Int64.toBitVec_and, wb_tb, wb_tb, wb_tb]
  apply BitVec.eq_of_toNat_eq
  rw [BitVec.toNat_and, BitVec.toNat_ofNat, BitVec.toNat_ofNat, BitVec.toNat_ofNat, Nat.mod_eq_of_lt ha, Nat.mod_eq_of_lt hb, Nat.mod_eq_of_lt (Nat.and_lt_two_pow _ hb)]
theorem wb_mask {n k : Nat} (hn : n < 2 ^ 64) (hk : k < 64) : lN n &&& lN (2 ^ k - 1) = lN (n % 2 ^ k) := by
  rw [wb_and hn (by have := wb_lt2 hk; omega), Nat.and_two_pow_sub_one_eq_mod]
/-- the bytes that a list of record lengths takes up -/
def fr_tot : List Nat → Nat
  | [] => 0
  | l :: L => l + 2 + fr_tot L
/-- from place r on the ring holds the heads of the records of the list -/
def fr_recs (a : Nat → Int32) : Nat → List Nat → Prop
  | _, [] => True
  | r, l :: L => a (r % 16) &&& 255 = 0 ∧ a ((r + 1) % 16) &&& 255 = nI l ∧ fr_recs a (r + (l + 2)) L
theorem fr_tot_c (l : Nat) (L : List Nat) : fr_tot (l :: L) = l + 2 + fr_tot L := rfl
theorem fr_totA (n : Nat) : ∀ L : List Nat, fr_tot (L ++ [n]) = fr_tot L + (n + 2) := by
  intro L
  induction L with
  | nil =>
    show n + 2 + 0 = 0 + (n + 2)
    omega
  | cons l L ih =>
    show l + 2 + fr_tot (L ++ [n]) = l + 2 + fr_tot L + (n + 2)
    rw [ih]
    omega
theorem fr_keep {a b : Nat → Int32} : ∀ (L : List Nat) (r : Nat), (∀ i, i < fr_tot L → b ((r + i) % 16) = a ((r + i) % 16)) → fr_recs a r L → fr_recs b r L := by
  intro L
  induction L with
  | nil => intro r _ _; trivial
  | cons l L ih =>
    intro r h H
    have ht : fr_tot (l :: L) = l + 2 + fr_tot L := rfl
    obtain ⟨h0, h1, h2⟩ := H
    refine ⟨?_, ?_, ih _ ?_ h2⟩
    · have e := h 0 (by omega)
      rw [Nat.add_zero] at e
      rw [e]
      exact h0
    · rw [h 1 (by omega)]
      exact h1
    · intro i hi
      have e := h (l + 2 + i) (by omega)
      rw [← Nat.add_assoc r (l + 2) i] at e
      exact e
theorem fr_snoc {a : Nat → Int32} {n : Nat} : ∀ (L : List Nat) (r : Nat), fr_recs a r L → a ((r + fr_tot L) % 16) &&& 255 = 0 → a ((r + fr_tot L + 1) % 16) &&& 255 = nI n → fr_recs a r (L ++ [n]) := by
  intro L
  induction L with
  | nil => intro r _ h0 h1; exact ⟨h0, h1, by trivial⟩
  | cons l L ih =>
    intro r H h0 h1
    have e : r + fr_tot (l :: L) = r + (l + 2) + fr_tot L := by rw [fr_tot_c]; omega
    rw [e] at h0 h1
    exact ⟨H.1, H.2.1, ih _ H.2.2 h0 h1⟩
theorem fr_m {n : Nat} (h : n < 2 ^ 31) : nI n &&& 15 = nI (n % 16) := pk_andN (by omega) 4 (by decide)
theorem fr_nx {n : Nat} (h : n < 2 ^ 30) : (nI (n % 16) + 1) &&& 15 = nI ((n + 1) % 16) := by
  rw [nI_1, fr_m (by omega)]
  exact congrArg nI (by omega)
theorem fr_l {n : Nat} (h : n < 2 ^ 31) : (lN n &&& 15).toInt32 = nI (n % 16) := by
  have e : lN n &&& 15 = lN (n % 16) := wb_mask (n := n) (k := 4) (by omega) (by decide)
  rw [e, lN_i]
theorem fr_in (n : Nat) : vp_in (nI (n % 16)) 16 := vp_in_nI (Nat.mod_lt _ (by decide)) (by decide)
theorem fr_cl (n : Nat) : (nI (n % 16)).toNatClampNeg = n % 16 := nI_clamp (by omega)
theorem fr_lin {n : Nat} (h : n < 2 ^ 31) : vp_in ((lN n &&& 15).toInt32) 16 := by
  rw [fr_l h]
  exact fr_in n
theorem fr_lcl {n : Nat} (h : n < 2 ^ 31) : ((lN n &&& 15).toInt32).toNatClampNeg = n % 16 := by
  rw [fr_l h]
  exact fr_cl n
theorem fr_hi0 : ∀ n, n < 15 → (((nI n).toUInt32 >>> ((8 : Int32).toUInt32 &&& Int32.toUInt32 31)).toInt32).toInt8.toInt32.toInt8.toInt32 &&& 255 = 0 := by decide +kernel
theorem fr_lo0 : ∀ n, n < 15 → (nI n).toInt8.toInt32.toInt8.toInt32 &&& 255 = nI n := by decide +kernel
theorem fr_or : ∀ n, n < 15 → ((0 : Int32) <<< ((8 : Int32) &&& 31)) ||| nI n = nI n := by decide +kernel
theorem fr_room0 : ∀ t, t < 17 → (16 - nI t - 2).toInt = 14 - (t : Int) := by decide +kernel
theorem fr_hi {n : Nat} (h : n < 15) : vp_nar .byte (((nI n).toUInt32 >>> ((8 : Int32).toUInt32 &&& Int32.toUInt32 31)).toInt32).toInt8.toInt32 &&& 255 = 0 := by
  rw [vp_nar_byte]
  exact fr_hi0 n h
theorem fr_lo {n : Nat} (h : n < 15) : vp_nar .byte (nI n).toInt8.toInt32 &&& 255 = nI n := by
  rw [vp_nar_byte]
  exact fr_lo0 n h
theorem fr_room {m t : Nat} (hm : m < 2 ^ 31) (ht : t ≤ 16) : nI m ≤ 16 - nI t - 2 ↔ t + m + 2 ≤ 16 := by
  rw [Int32.le_iff_toInt_le, nI_toInt hm, fr_room0 t (by omega)]
  omega
theorem fr_diff (r t : Nat) : (lN (r + t) - lN r).toInt32 = nI t := by
  rw [lN_sub (by omega), lN_i]
  exact congrArg nI (by omega)
theorem fr_up (t m : Nat) : nI t + nI m + 2 = nI (t + (m + 2)) := by
  rw [nI_add]
  show nI (t + m) + nI 2 = _
  rw [nI_add]
  exact congrArg nI (by omega)
theorem fr_dn (t m : Nat) : nI (m + 2 + t) - nI m - 2 = nI t := by
  rw [pk_sub (by omega)]
  show nI (m + 2 + t - m) - nI 2 = _
  rw [pk_sub (by omega)]
  exact congrArg nI (by omega)
theorem fr_upL {r t m : Nat} (hm : m < 2 ^ 31) : lN (r + t) + (nI m).toInt64 + 2 = lN (r + (t + (m + 2))) := by
  rw [nI_l hm, lN_add]
  show lN (r + t + m) + lN 2 = _
  rw [lN_add]
  exact congrArg lN (by omega)
end
section
/-- the payload's loop of put, on both sides: one content b, the rest of the ring kept -/
theorem fr_put (m : Nat) (hm : m < 2 ^ 31) (s : Int32) : ∀ (d j w : Nat) (a : Nat → Int32), j + d = m → w + d < 2 ^ 30 → ∃ b : Nat → Int32, (∀ p, (∀ i, i < d → p ≠ (w + i) % 16) → b p = a p) ∧ (∀ (post : Int32 → SX → Prop) (h u : Int32) (t : Int64), post 1 (h, u + nI m + 2, t + (nI m).toInt64 + 2, b) → wX_put_67 post (nI m) s h u t (d + 1) (nI (w % 16)) (nI j) a) ∧ (∀ (post : Int32 → SY → Prop) (r : Int64), post 1 (lN (w + d), r, b) → wY_put_69 post (nI m) s r (d + 1) (nI j) (lN w) a) := by
  intro d
  induction d with
  | zero =>
    intro j w a hj hw
    have h : nI m ≤ nI j := nI_le (by omega) (by omega)
    exact ⟨a, fun _ _ => rfl, fun _ _ _ _ hp => br_t h (nm_e (nm_e hp)), fun _ _ hp => br_t h hp⟩
  | succ d ih =>
    intro j w a hj hw
    have h : ¬ nI m ≤ nI j := nI_ge (by omega) hm
    obtain ⟨b, hb, hX, hY⟩ := ih (j + 1) (w + 1) (upd a (w % 16) (vp_nar .byte ((s + nI j).toInt8.toInt32))) (by omega) (by omega)
    refine ⟨b, ?_, ?_, ?_⟩
    · intro p hp
      have h1 : p ≠ w % 16 := hp 0 (by omega)
      have h2 : ∀ i, i < d → p ≠ (w + 1 + i) % 16 := by
        intro i hi
        have q := hp (i + 1) (by omega)
        rw [show w + 1 + i = w + (i + 1) by omega]
        exact q
      rw [hb p h2, pk_un h1]
    · intro post h' u t hp
      refine br_f h ⟨fr_in w, ?_⟩
      rw [fr_cl]
      refine nm_e (nm_r (fr_nx (by omega)) (nm_r (nI_1 j) ?_))
      exact hX post h' u t hp
    · intro post r hp
      refine br_f h (nm_r (lN_1 w) ⟨fr_lin (by omega), ?_⟩)
      rw [fr_lcl (by omega)]
      refine nm_e (nm_r (nI_1 j) ?_)
      refine hY post r ?_
      rw [show w + 1 + d = w + (d + 1) by omega]
      exact hp
/-- the payload's loop of take, on both sides: one sum -/
theorem fr_take (m : Nat) (hm : m < 2 ^ 31) (a : Nat → Int32) : ∀ (d j w : Nat) (s : Int32), j + d = m → w + d < 2 ^ 30 → ∃ s' : Int32, (∀ (post : Int32 → SX → Prop) (h u : Int32) (t : Int64), post s' (nI ((w + d) % 16), u - nI m - 2, t, a) → wX_take_65 post (nI m) h u t a (d + 1) (nI (w % 16)) s (nI j)) ∧ (∀ (post : Int32 → SY → Prop) (f : Int64), post s' (f, lN (w + d), a) → wY_take_79 post (nI m) f a (d + 1) s (nI j) (lN w)) := by
  intro d
  induction d with
  | zero =>
    intro j w s hj hw
    have h : nI m ≤ nI j := nI_le (by omega) (by omega)
    exact ⟨s, fun _ _ _ _ hp => br_t h (nm_e hp), fun _ _ hp => br_t h hp⟩
  | succ d ih =>
    intro j w s hj hw
    have h : ¬ nI m ≤ nI j := nI_ge (by omega) hm
    obtain ⟨s', hX, hY⟩ := ih (j + 1) (w + 1) (s + (a (w % 16) &&& 255)) (by omega) (by omega)
    have e : w + 1 + d = w + (d + 1) := by omega
    rw [e] at hX hY
    refine ⟨s', ?_, ?_⟩
    · intro post h' u t hp
      refine br_f h ⟨fr_in w, ?_⟩
      rw [fr_cl]
      refine nm_e (nm_r (fr_nx (by omega)) (nm_r (nI_1 j) ?_))
      exact hX post h' u t hp
    · intro post f hp
      refine br_f h (nm_r (lN_1 w) ⟨fr_lin (by omega), ?_⟩)
      rw [fr_lcl (by omega)]
      refine nm_e (nm_r (nI_1 j) ?_)
      exact hY post f hp
/-- put of a record that fits -/
theorem fr_pt (r t m : Nat) (s : Int32) (a : Nat → Int32) (ht : t + m + 2 ≤ 16) (hr : r + t < 2 ^ 20) : ∃ b : Nat → Int32, (∀ p, (∀ i, i < m + 2 → p ≠ (r + t + i) % 16) → b p = a p) ∧ b ((r + t) % 16) &&& 255 = 0 ∧ b ((r + t + 1) % 16) &&& 255 = nI m ∧ (∀ post : Int32 → SX → Prop, post 1 (nI (r % 16), nI (t + (m + 2)), lN (r + (t + (m + 2))), b) → wpX_put post (nI (r % 16), nI t, lN (r + t), a) (nI m) s) ∧ (∀ post : Int32 → SY → Prop, post 1 (lN (r + (t + (m + 2))), lN r, b) → wpY_put post (lN (r + t), lN r, a) (nI m) s) := by
  have hm : m < 2 ^ 31 := by omega
  have h0 : (0 : Int32) ≤ nI m := nI_pos' hm
  have h1 : nI m ≤ 16 - nI t - 2 := (fr_room hm (by omega)).mpr ht
  obtain ⟨b, hb, hX, hY⟩ := fr_put m hm s m 0 (r + t + 1 + 1) (upd (upd a ((r + t) % 16) (vp_nar .byte (((nI m).toUInt32 >>> ((8 : Int32).toUInt32 &&& Int32.toUInt32 31)).toInt32).toInt8.toInt32)) ((r + t + 1) % 16) (vp_nar .byte (nI m).toInt8.toInt32)) (by omega) (by omega)
  refine ⟨b, ?_, ?_, ?_, ?_, ?_⟩
  · intro p hp
    have p0 : p ≠ (r + t) % 16 := hp 0 (by omega)
    have p1 : p ≠ (r + t + 1) % 16 := hp 1 (by omega)
    have p2 : ∀ i, i < m → p ≠ (r + t + 1 + 1 + i) % 16 := by
      intro i hi
      have q := hp (i + 2) (by omega)
      rw [show r + t + 1 + 1 + i = r + t + (i + 2) by omega]
      exact q
    rw [hb p p2, pk_un p1, pk_un p0]
  · rw [hb _ (fun i hi => by omega), pk_un (by omega), pk_us]
    exact fr_hi (by omega)
  · rw [hb _ (fun i hi => by omega), pk_us]
    exact fr_lo (by omega)
  · intro post hp
    unfold wpX_put
    dsimp only
    refine br_t h0 ?_
    unfold wpX_free
    dsimp only
    refine br_t h1 ?_
    have e : (nI (r % 16) + nI t) &&& 15 = nI ((r + t) % 16) := by
      rw [nI_add, fr_m (by omega)]
      exact congrArg nI (by omega)
    refine nm_r e ⟨fr_in _, ?_⟩
    rw [fr_cl]
    refine nm_e (nm_r (fr_nx (by omega)) ⟨fr_in _, ?_⟩)
    rw [fr_cl]
    refine nm_e (nm_r (fr_nx (by omega)) ⟨m + 1, ?_⟩)
    refine hX post _ _ _ ?_
    rw [fr_up, fr_upL hm]
    exact hp
  · intro post hp
    unfold wpY_put
    dsimp only
    refine br_t h0 ?_
    unfold wpY_free
    dsimp only
    rw [fr_diff]
    refine br_t h1 ?_
    refine nm_r (lN_1 _) ⟨fr_lin (by omega), ?_⟩
    rw [fr_lcl (by omega)]
    refine nm_e (nm_r (lN_1 _) ⟨fr_lin (by omega), ?_⟩)
    rw [fr_lcl (by omega)]
    refine nm_e ⟨m + 1, ?_⟩
    refine hY post _ ?_
    rw [show r + t + 1 + 1 + m = r + (t + (m + 2)) by omega]
    exact hp
/-- take of a record that is there -/
theorem fr_tk (r l t : Nat) (a : Nat → Int32) (f : Int64) (ht : l + 2 + t ≤ 16) (hr : r + (l + 2 + t) < 2 ^ 20) (a0 : a (r % 16) &&& 255 = 0) (a1 : a ((r + 1) % 16) &&& 255 = nI l) : ∃ s : Int32, (∀ post : Int32 → SX → Prop, post s (nI ((r + (l + 2)) % 16), nI t, f, a) → wpX_take post (nI (r % 16), nI (l + 2 + t), f, a)) ∧ (∀ post : Int32 → SY → Prop, post s (lN (r + (l + 2 + t)), lN (r + (l + 2)), a) → wpY_take post (lN (r + (l + 2 + t)), lN r, a)) := by
  have hl : l < 2 ^ 31 := by omega
  have h2 : (2 : Int32) ≤ nI (l + 2 + t) := nI_le (a := 2) (by omega) (by omega)
  have hw : ¬ lN (r + (l + 2 + t)) = lN r := by
    rw [lN_eq (by omega) (by omega)]
    omega
  have eo : ((a (r % 16) &&& 255) <<< ((8 : Int32) &&& 31)) ||| (a ((r + 1) % 16) &&& 255) = nI l := by
    rw [a0, a1]
    exact fr_or l (by omega)
  obtain ⟨s, hX, hY⟩ := fr_take l hl a l 0 (r + 1 + 1) 0 (by omega) (by omega)
  rw [show r + 1 + 1 + l = r + (l + 2) by omega] at hX hY
  refine ⟨s, ?_, ?_⟩
  · intro post hp
    unfold wpX_take
    dsimp only
    refine br_t h2 ⟨fr_in _, ?_⟩
    rw [fr_cl]
    refine nm_e (nm_r (fr_nx (by omega)) ⟨fr_in _, ?_⟩)
    rw [fr_cl]
    refine nm_e (nm_r (fr_nx (by omega)) (nm_r eo ⟨l + 1, ?_⟩))
    refine hX post _ _ _ ?_
    rw [fr_dn]
    exact hp
  · intro post hp
    unfold wpY_take
    dsimp only
    refine br_f hw (nm_r (lN_1 _) ⟨fr_lin (by omega), ?_⟩)
    rw [fr_lcl (by omega)]
    refine nm_e (nm_r (lN_1 _) ⟨fr_lin (by omega), ?_⟩)
    rw [fr_lcl (by omega)]
    refine nm_e (nm_r eo ⟨l + 1, ?_⟩)
    exact hY post _ hp
end
section
/-- one ring on both sides; r bytes taken so far, the list L holds the lengths of the records that wait -/
def i_Rel (k : Nat) (u : SX) (v : SY) : Prop := ∃ (r : Nat) (L : List Nat) (a : Nat → Int32), u = (nI (r % 16), nI (fr_tot L), lN (r + fr_tot L), a) ∧ v = (lN (r + fr_tot L), lN r, a) ∧ r + fr_tot L ≤ 16 * k ∧ fr_tot L ≤ 16 ∧ fr_recs a r L
theorem i_up {k : Nat} {u : SX} {v : SY} (h : i_Rel k u v) : i_Rel (k + 3) u v := by
  obtain ⟨r, L, a, hu, hv, hb, ht, hr⟩ := h
  exact ⟨r, L, a, hu, hv, by omega, ht, hr⟩
theorem i_vc0 : wpX_init (fun u => wpY_init (fun v => i_Rel 0 u v)) := ⟨0, [], fun _ => 0, rfl, rfl, Nat.le_refl 0, Nat.zero_le 16, by trivial⟩
/-- put is refused on both sides -/
theorem fr_no (r t : Nat) (a : Nat → Int32) (p q : Int32) (h : ¬ (0 : Int32) ≤ p ∨ ¬ p ≤ 16 - nI t - 2) : (∀ post : Int32 → SX → Prop, post 0 (nI (r % 16), nI t, lN (r + t), a) → wpX_put post (nI (r % 16), nI t, lN (r + t), a) p q) ∧ (∀ post : Int32 → SY → Prop, post 0 (lN (r + t), lN r, a) → wpY_put post (lN (r + t), lN r, a) p q) := by
  constructor
  · intro post hp
    unfold wpX_put
    dsimp only
    by_cases h0 : (0 : Int32) ≤ p
    · refine br_t h0 ?_
      unfold wpX_free
      dsimp only
      exact br_f (h.resolve_left (fun z => z h0)) hp
    · exact br_f h0 hp
  · intro post hp
    unfold wpY_put
    dsimp only
    by_cases h0 : (0 : Int32) ≤ p
    · refine br_t h0 ?_
      unfold wpY_free
      dsimp only
      rw [fr_diff]
      exact br_f (h.resolve_left (fun z => z h0)) hp
    · exact br_f h0 hp
theorem i_vc_put {k : Nat} {u : SX} {v : SY} (I : i_Rel k u v) (hk : k + 3 ≤ 1536) (v1 : Int32) (v2 : Int32) : wpX_put (fun r u' => wpY_put (fun r' v' => r' = r ∧ i_Rel (k + 3) u' v') v v1 v2) u v1 v2 := by
  have I' := i_up I
  obtain ⟨r, L, a, rfl, rfl, hb, ht, hr⟩ := I
  by_cases hn : ¬ (0 : Int32) ≤ v1 ∨ ¬ v1 ≤ 16 - nI (fr_tot L) - 2
  · obtain ⟨hX, hY⟩ := fr_no r (fr_tot L) a v1 v2 hn
    exact hX _ (hY _ ⟨rfl, I'⟩)
  · have h0 : (0 : Int32) ≤ v1 := Classical.byContradiction (fun z => hn (Or.inl z))
    have h1 : v1 ≤ 16 - nI (fr_tot L) - 2 := Classical.byContradiction (fun z => hn (Or.inr z))
    obtain ⟨m, hm, rfl⟩ := nI_of (x := v1) (Int32.not_lt.mpr h0)
    have h2 : fr_tot L + m + 2 ≤ 16 := (fr_room hm ht).mp h1
    obtain ⟨b, hk', b0, b1, hX, hY⟩ := fr_pt r (fr_tot L) m v2 a h2 (by omega)
    refine hX _ (hY _ ⟨rfl, r, L ++ [m], b, ?_, ?_, ?_, ?_, ?_⟩)
    · rw [fr_totA]
    · rw [fr_totA]
    · rw [fr_totA]
      omega
    · rw [fr_totA]
      omega
    · refine fr_snoc L r (fr_keep L r ?_ hr) b0 b1
      intro i hi
      exact hk' _ (fun j hj => by omega)
theorem i_vc_take {k : Nat} {u : SX} {v : SY} (I : i_Rel k u v) (hk : k + 3 ≤ 1536) : wpX_take (fun r u' => wpY_take (fun r' v' => r' = r ∧ i_Rel (k + 3) u' v') v) u := by
  have I' := i_up I
  obtain ⟨r, L, a, rfl, rfl, hb, ht, hr⟩ := I
  cases L with
  | nil =>
    have h2 : ¬ (2 : Int32) ≤ nI (fr_tot []) := nI_ge (a := 0) (b := 2) (by decide) (by decide)
    unfold wpX_take
    dsimp only
    refine br_f h2 ?_
    unfold wpY_take
    dsimp only
    exact br_t rfl ⟨rfl, I'⟩
  | cons l L =>
    have e : fr_tot (l :: L) = l + 2 + fr_tot L := rfl
    rw [e] at hb ht ⊢
    obtain ⟨a0, a1, a2⟩ := hr
    obtain ⟨s, hX, hY⟩ := fr_tk r l (fr_tot L) a (lN (r + (l + 2 + fr_tot L))) ht (by omega) a0 a1
    refine hX _ (hY _ ⟨rfl, r + (l + 2), L, a, ?_, ?_, by omega, by omega, a2⟩)
    · rw [show r + (l + 2) + fr_tot L = r + (l + 2 + fr_tot L) by omega]
    · rw [show r + (l + 2) + fr_tot L = r + (l + 2 + fr_tot L) by omega]
theorem i_vc_free {k : Nat} {u : SX} {v : SY} (I : i_Rel k u v) (hk : k + 3 ≤ 1536) : wpX_free (fun r => wpY_free (fun r' => r' = r ∧ i_Rel (k + 3) u v) v) u := by
  have I' := i_up I
  obtain ⟨r, L, a, rfl, rfl, hb, ht, hr⟩ := I
  exact ⟨congrArg (fun z : Int32 => 16 - z) (fr_diff r (fr_tot L)), I'⟩
theorem i_vc_written {k : Nat} {u : SX} {v : SY} (I : i_Rel k u v) (hk : k + 3 ≤ 1536) : wpX_written (fun r => wpY_written (fun r' => r' = r ∧ i_Rel (k + 3) u v) v) u := by
  have I' := i_up I
  obtain ⟨r, L, a, rfl, rfl, hb, ht, hr⟩ := I
  exact ⟨rfl, I'⟩
end
