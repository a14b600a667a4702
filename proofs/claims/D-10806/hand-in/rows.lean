section
/-! plain rows: places of the bit memory, stores, bits of a number -/
theorem bs_ix (r i : Nat) : (32 : Int32) * nI r + nI i = nI (32 * r + i) := by
  rw [show (32 : Int32) = nI 32 from rfl, pk_mul, nI_add]
theorem bs_cl {r i : Nat} (hr : r < 14) (hi : i < 32) : ((32 : Int32) * nI r + nI i).toNatClampNeg = 32 * r + i := by
  rw [bs_ix, nI_clamp (by omega)]
/-- the first i places of register r hold f, all outside of it is as in a -/
def bs_In (r : Nat) (f a : Nat → Int32) (i : Nat) (s : Nat → Int32) : Prop :=
  (∀ k, k < i → s (32 * r + k) = f k) ∧ ∀ j, ¬ (32 * r ≤ j ∧ j < 32 * r + 32) → s j = a j
theorem bs_in0 {r : Nat} {f a : Nat → Int32} : bs_In r f a 0 a := ⟨fun k hk => absurd hk (by omega), fun _ _ => rfl⟩
theorem bs_put {r i c : Nat} {f a s : Nat → Int32} {x : Int32} (hi : i < 32) (hc : c = 32 * r + i) (hx : x = f i) (h : bs_In r f a i s) : bs_In r f a (i + 1) (upd s c x) := by
  refine ⟨fun k hk => ?_, fun j hj => ?_⟩
  · by_cases e : k = i
    · rw [e, hc, pk_us, hx]
    · rw [pk_un (by omega)]
      exact h.1 k (by omega)
  · rw [pk_un (by omega)]
    exact h.2 j hj
theorem bs_fill {f s : Nat → Int32} {i k : Nat} {x : Int32} (hk : k = i) (h : ∀ j, j < i → s j = f j) (hx : x = f i) : ∀ j, j < i + 1 → upd s k x j = f j := by
  intro j hj
  rw [hk]
  by_cases e : j = i
  · rw [e, pk_us, hx]
  · rw [pk_un e]
    exact h j (by omega)
theorem bs_cnt : ∀ n, n < 32 → (((nI n).toUInt32 &&& Int32.toUInt32 31).toBitVec % 32).toNat = n := by decide +kernel
/-- one bit of a value, as the machine reads it -/
theorem bs_bit (v : Int32) {i : Nat} (hi : i < 32) : ((v.toUInt32 >>> ((nI i).toUInt32 &&& Int32.toUInt32 31)).toInt32) &&& 1 = nI (v.toBitVec.toNat / 2 ^ i % 2) := by
  rw [pk_and _ (m := 1) 1 (by decide), pk_ushr v (nI i) i (bs_cnt i hi)]
theorem bs_nar {x : Int32} {b : Nat} (hb : b < 2) (h : x = nI b) : vp_nar .boolean x = x := by
  have e : b = 0 ∨ b = 1 := by omega
  rcases e with e | e
  · rw [h, e]
    rfl
  · rw [h, e]
    rfl
theorem bs_lowbit (v i : Nat) (hi : i < 16) : v / 2 ^ i % 2 = v % 65536 / 2 ^ i % 2 := by
  have e : (65536 : Nat) = 2 ^ i * (2 * 2 ^ (15 - i)) := by
    rw [← Nat.mul_assoc, ← Nat.pow_succ, ← Nat.pow_add, show i + 1 + (15 - i) = 16 by omega]
  rw [e, Nat.mod_mul_right_div_self, Nat.mod_mul_right_mod]
theorem bs_half (w i : Nat) : w / 2 ^ i = 2 * (w / 2 ^ (i + 1)) + w / 2 ^ i % 2 := by
  rw [Nat.pow_succ, ← Nat.div_div_eq_div_mul]
  omega
theorem bs_next (x : Int32) : ∃ q, q < 8 ∧ q ≠ x.toBitVec.toNat % 8 ∧ (x + 1) &&& 7 = nI q := by
  refine ⟨(x.toBitVec.toNat + 1) % 8, Nat.mod_lt _ (by omega), by omega, ?_⟩
  rw [pk_and _ (m := 7) 3 (by decide), Int32.toBitVec_add, BitVec.toNat_add]
  show nI ((x.toBitVec.toNat + 1) % 2 ^ 32 % 2 ^ 3) = _
  congr 1
  omega
end
section
/-! the walks: one lemma a method -/
theorem bs_load {post : St2 → Prop} {l nl la st : Int32} {a1 a2 a3 a4 a5 a6 a7 a8 a9 a10 a11 : Nat → Int32} {r : Nat} (v : Int32) (hr : r < 14)
    (H : ∀ a, (∀ i, i < 32 → a (32 * r + i) = nI (v.toBitVec.toNat / 2 ^ i % 2)) → (∀ j, ¬ (32 * r ≤ j ∧ j < 32 * r + 32) → a j = a5 j) → post (l, nl, la, st, a1, a2, a3, a4, a, a6, a7, a8, a9, a10, a11)) :
    wpX_loadConstant post (l, nl, la, st, a1, a2, a3, a4, a5, a6, a7, a8, a9, a10, a11) (nI r) v :=
  pk_loop (fun n i s => wX_loadConstant_2 post (nI r) v l nl la st n (nI i) a1 a2 a3 a4 s a6 a7 a8 a9 a10 a11) (bs_In r (fun i => nI (v.toBitVec.toNat / 2 ^ i % 2)) a5) 32 0 a5 (by omega) bs_in0
    (fun n a h => pk_le 32 32 (fun _ => H a h.1 h.2) (fun z => absurd z (by omega)))
    (fun n i s hi h hw => pk_le 32 i (fun z => absurd z (by omega)) (fun _ => br_c
      (fun z => ⟨pk_in (32 * r + i) 448 (by omega) (bs_ix r i), nm_e (nm_r (nI_1 i) (hw _ (bs_put hi (bs_cl hr hi) (by rw [bs_bit v hi] at z; exact z.symm) h)))⟩)
      (fun z => ⟨pk_in (32 * r + i) 448 (by omega) (bs_ix r i), nm_e (nm_r (nI_1 i) (hw _ (bs_put hi (bs_cl hr hi) (by
        rw [bs_bit v hi] at z
        show 1 = nI (v.toBitVec.toNat / 2 ^ i % 2)
        rcases Nat.mod_two_eq_zero_or_one (v.toBitVec.toNat / 2 ^ i) with e | e
        · rw [e] at z
          exact absurd rfl z
        · rw [e]
          rfl) h)))⟩)))
theorem bs_keep {post : St2 → Prop} {l nl la st : Int32} {a1 a2 a3 a4 a5 a6 a7 a8 a9 a10 a11 : Nat → Int32} {r : Nat} (hr : r < 14)
    (H : ∀ a, (∀ i, i < 32 → a (32 * r + i) = vp_nar .boolean (a6 i)) → (∀ j, ¬ (32 * r ≤ j ∧ j < 32 * r + 32) → a j = a5 j) → post (l, nl, la, st, a1, a2, a3, a4, a, a6, a7, a8, a9, a10, a11)) :
    wpX_keepFresh post (l, nl, la, st, a1, a2, a3, a4, a5, a6, a7, a8, a9, a10, a11) (nI r) :=
  pk_loop (fun n i s => wX_keepFresh_2 post (nI r) l nl la st n (nI i) a1 a2 a3 a4 s a6 a7 a8 a9 a10 a11) (bs_In r (fun i => vp_nar .boolean (a6 i)) a5) 32 0 a5 (by omega) bs_in0
    (fun n a h => pk_le 32 32 (fun _ => H a h.1 h.2) (fun z => absurd z (by omega)))
    (fun n i s hi h hw => pk_le 32 i (fun z => absurd z (by omega)) (fun _ => ⟨pk_in i 32 hi, pk_in (32 * r + i) 448 (by omega) (bs_ix r i),
      nm_e (nm_r (nI_1 i) (hw _ (bs_put hi (bs_cl hr hi) (by rw [nI_clamp (by omega)]) h)))⟩))
theorem bs_widen {post : St2 → Prop} {l nl la st : Int32} {a1 a2 a3 a4 a5 a6 a7 a8 a9 a10 a11 : Nat → Int32} {r q : Nat} (hr : r < 14) (hq : q < 14)
    (H : ∀ a a', (∀ i, i < 32 → a (32 * r + i) = vp_nar .boolean (vp_nar .boolean (a5 (32 * q + min i 15)))) → (∀ j, ¬ (32 * r ≤ j ∧ j < 32 * r + 32) → a j = a5 j) → post (l, nl, la, st, a1, a2, a3, a4, a, a', a7, a8, a9, a10, a11)) :
    wpX_widen post (l, nl, la, st, a1, a2, a3, a4, a5, a6, a7, a8, a9, a10, a11) (nI r) (nI q) :=
  pk_loop (fun n i s => wX_widen_2 post (nI r) (nI q) l nl la st n (nI i) a1 a2 a3 a4 a5 s a7 a8 a9 a10 a11) (fun i s => ∀ j, j < i → s j = vp_nar .boolean (a5 (32 * q + min j 15))) 32 0 a6 (by omega) (fun j hj => absurd hj (by omega))
    (fun n a' h => pk_le 32 32 (fun _ => bs_keep hr (fun a h1 h2 => H a a' (fun i hi => by rw [h1 i hi, h i hi]) h2)) (fun z => absurd z (by omega)))
    (fun n i s hi h hw => pk_le 32 i (fun z => absurd z (by omega)) (fun _ => pk_le 16 i
      (fun z => ⟨pk_in (32 * q + 15) 448 (by omega) (bs_ix q 15), pk_in i 32 hi, nm_e (nm_r (nI_1 i) (hw _ (bs_fill (nI_clamp (by omega)) h
        (by rw [show min i 15 = 15 by omega]; exact congrArg (fun c => vp_nar .boolean (a5 c)) (bs_cl (i := 15) hq (by omega))))))⟩)
      (fun z => ⟨pk_in (32 * q + i) 448 (by omega) (bs_ix q i), pk_in i 32 hi, nm_e (nm_r (nI_1 i) (hw _ (bs_fill (nI_clamp (by omega)) h
        (by rw [show min i 15 = i by omega, bs_cl hq hi]))))⟩)))
theorem bs_set {post : St2 → Prop} {l nl la st : Int32} {a1 a2 a3 a4 a5 a6 a7 a8 a9 a10 a11 : Nat → Int32} (x v : Int32)
    (H : ∀ a a', (∀ i, i < 16 → a (32 * (x.toBitVec.toNat % 8) + i) = nI (v.toBitVec.toNat % 65536 / 2 ^ i % 2)) → (∀ r i, r < 8 → i < 32 → r ≠ x.toBitVec.toNat % 8 → a (32 * r + i) = a5 (32 * r + i)) → post (l, nl, la, st, a1, a2, a3, a4, a, a', a7, a8, a9, a10, a11)) :
    wpX_set post (l, nl, la, st, a1, a2, a3, a4, a5, a6, a7, a8, a9, a10, a11) x v := by
  unfold wpX_set
  refine bs_load (r := 8) v (by omega) (fun b hb hc => ?_)
  dsimp only
  rw [pk_and x (m := 7) 3 (by decide)]
  have hk : x.toBitVec.toNat % 8 < 8 := Nat.mod_lt _ (by omega)
  refine bs_widen (r := x.toBitVec.toNat % 2 ^ 3) (q := 8) (by omega) (by omega) (fun a a' h1 h2 => ?_)
  refine H a a' (fun i hi => ?_) (fun r i hr hi hn => ?_)
  · have e := h1 i (by omega)
    rw [show min i 15 = i by omega, hb i (by omega)] at e
    have t : v.toBitVec.toNat / 2 ^ i % 2 < 2 := Nat.mod_lt _ (by omega)
    rw [bs_nar t rfl, bs_nar t rfl, bs_lowbit _ i hi] at e
    exact e
  · have e := h2 (32 * r + i) (by omega)
    rw [e]
    exact hc (32 * r + i) (by omega)
theorem bs_uns {post : Int32 → Prop} {l nl la st : Int32} {a1 a2 a3 a4 a5 a6 a7 a8 a9 a10 a11 : Nat → Int32} {r : Nat} (w : Nat) (hr : r < 14)
    (hb : ∀ i, i < 16 → a5 (32 * r + i) = nI (w / 2 ^ i % 2)) (hw : w < 65536) (H : post (nI w)) :
    wpX_unsigned post (l, nl, la, st, a1, a2, a3, a4, a5, a6, a7, a8, a9, a10, a11) (nI r) := by
  refine ⟨17, pk_loopD (fun n i s => wX_unsigned_5 post (nI r) l nl la st a1 a2 a3 a4 a5 a6 a7 a8 a9 a10 a11 n s (nI i + (-1))) (fun i s => i ≤ 16 ∧ s = nI (w / 2 ^ i)) ?_ ?_ 16 (nI 0) ⟨by omega, ?_⟩⟩
  · intro n s h
    refine br_t (by decide) ?_
    rw [h.2, Nat.pow_zero, Nat.div_one]
    exact H
  · intro n i s h ih
    show wX_unsigned_5 post (nI r) l nl la st a1 a2 a3 a4 a5 a6 a7 a8 a9 a10 a11 (n + 1) s (nI (i + 1) + (-1))
    rw [pk_m1]
    have hi := h.1
    refine br_f (nI_pos (by omega)) ⟨pk_in (32 * r + i) 448 (by omega) (bs_ix r i), ?_⟩
    rw [bs_cl hr (by omega), hb i (by omega)]
    have g := bs_half w i
    have t : (2 : Int32) * s = nI (2 * (w / 2 ^ (i + 1))) := by
      rw [h.2, show (2 : Int32) = nI 2 from rfl, pk_mul]
    rcases Nat.mod_two_eq_zero_or_one (w / 2 ^ i) with e | e
    · rw [e] at g ⊢
      refine br_t rfl (nm_r ?_ (nm_e (ih (nI (w / 2 ^ i)) ⟨by omega, rfl⟩)))
      rw [t, ← nI_0, nI_add, ← g]
    · rw [e] at g ⊢
      refine br_f (by decide) (nm_r ?_ (nm_e (ih (nI (w / 2 ^ i)) ⟨by omega, rfl⟩)))
      rw [t, nI_1, ← g]
  · rw [Nat.div_eq_of_lt hw]
theorem bs_get {post : Int32 → Prop} {l nl la st : Int32} {a1 a2 a3 a4 a5 a6 a7 a8 a9 a10 a11 : Nat → Int32} {r : Nat} (x : Int32) (w : Nat) (hx : x &&& 7 = nI r) (hr : r < 14)
    (hb : ∀ i, i < 16 → a5 (32 * r + i) = nI (w / 2 ^ i % 2)) (hw : w < 65536) (H1 : w ≤ 32767 → post (nI w)) (H2 : 32767 < w → post (nI w - 65536)) :
    wpX_get post (l, nl, la, st, a1, a2, a3, a4, a5, a6, a7, a8, a9, a10, a11) x := by
  unfold wpX_get
  rw [hx]
  exact bs_uns w hr hb hw (pk_lt w 32768 (fun z => H1 (by omega)) (fun z => H2 (by omega)))
theorem bs_total {post : Int32 → Prop} {l nl la st : Int32} {a1 a2 a3 a4 a5 a6 a7 a8 a9 a10 a11 : Nat → Int32} {k w : Nat} (hk : k < 8) (hw : w < 65536)
    (hb : ∀ i, i < 16 → a5 (32 * k + i) = nI (w / 2 ^ i % 2)) (h0 : ∀ r i, r < 8 → i < 16 → r ≠ k → a5 (32 * r + i) = nI (0 / 2 ^ i % 2)) (H : post (nI w)) :
    wpX_total post (l, nl, la, st, a1, a2, a3, a4, a5, a6, a7, a8, a9, a10, a11) :=
  pk_loop (fun n i s => wX_total_4 post l nl la st a1 a2 a3 a4 a5 a6 a7 a8 a9 a10 a11 n s (nI i)) (fun i s => s = nI (if k < i then w else 0)) 8 0 (nI 0) (by omega) (by rw [if_neg (by omega)])
    (fun n s h => pk_le 8 8 (fun _ => by rw [h, if_pos hk]; exact H) (fun z => absurd z (by omega)))
    (fun n i s hi h ih => pk_le 8 i (fun z => absurd z (by omega)) (fun _ => by
      by_cases e : i = k
      · refine bs_uns w (by omega) (fun j hj => by rw [e]; exact hb j hj) hw (nm_r ?_ (nm_r (nI_1 i) (ih _ rfl)))
        rw [h, if_neg (by omega), if_pos (by omega), nI_add, Nat.zero_add]
      · refine bs_uns 0 (by omega) (fun j hj => h0 i j hi hj e) (by omega) (nm_r ?_ (nm_r (nI_1 i) (ih _ rfl)))
        rw [h, nI_add, Nat.add_zero]
        by_cases g : k < i
        · rw [if_pos g, if_pos (by omega)]
        · rw [if_neg g, if_neg (by omega)]))
theorem bs_emit {post : Int32 → St2 → Prop} {nl la st : Int32} {a1 a2 a3 a4 a5 a6 a7 a8 a9 a10 a11 : Nat → Int32} (o d x y : Int32)
    (H1 : o < 0 ∨ 18 < o → post (-1) (0, nl, la, st, a1, a2, a3, a4, a5, a6, a7, a8, a9, a10, a11)) (H2 : ¬ o < 0 → ¬ 18 < o → post 1 (1, nl, la, st, upd a1 0 o, upd a2 0 (d &&& 7), upd a3 0 x, upd a4 0 y, a5, a6, a7, a8, a9, a10, a11)) :
    wpX_emit post (0, nl, la, st, a1, a2, a3, a4, a5, a6, a7, a8, a9, a10, a11) o d x y :=
  br_c (fun z => H1 (Or.inl z)) (fun z => br_c (fun t => H1 (Or.inr t)) (fun t => br_t (by decide)
    ⟨pk_in 0 32 (by omega), nm_e ⟨pk_in 0 32 (by omega), nm_e ⟨pk_in 0 32 (by omega), nm_e ⟨pk_in 0 32 (by omega), nm_e (nm_r (e' := 1) rfl (H2 z t))⟩⟩⟩⟩))
theorem bs_run {post : Int32 → St2 → Prop} {la st : Int32} {a1 a2 a3 a4 a5 a6 a7 a8 a9 a10 a11 : Nat → Int32} (p : Int32) (H : post 0 (0, 0, la, st, a1, a2, a3, a4, a5, a6, a7, a8, a9, a10, a11)) :
    wpX_run post (0, 0, la, st, a1, a2, a3, a4, a5, a6, a7, a8, a9, a10, a11) p := by
  have X : ∀ x : Int32, wX_run_26 post x (0 + 1) 0 0 0 0 la st a1 a2 a3 a4 a5 a6 a7 a8 a9 a10 a11 := fun x => br_c (fun _ => H) (fun _ => br_t (by decide) H)
  exact br_c (fun _ => br_c (fun _ => ⟨0 + 1, X p⟩) (fun _ => ⟨0 + 1, X 60⟩)) (fun _ => ⟨0 + 1, X 0⟩)
end
section
/-! the law -/
/-- behind emit: the bit memory is as it was -/
theorem bs_87 {post : Int32 → St0 → Prop} {l nl la st : Int32} {a1 a2 a3 a4 a5 a6 a7 a8 a9 a10 a11 : Nat → Int32} {mc ms kc ks : Nat} (x v z : Int32)
    (h0 : ∀ r i, r < 8 → i < 16 → r ≠ x.toBitVec.toNat % 8 → a5 (32 * r + i) = nI (0 / 2 ^ i % 2)) (hn : nl = 0) (H : post 1 ()) :
    wL_lawOf_87 post mc ms x v z z kc ks l nl la st a1 a2 a3 a4 a5 a6 a7 a8 a9 a10 a11 := by
  unfold wL_lawOf_87
  obtain ⟨q, hq, hne, e⟩ := bs_next x
  refine br_t rfl (bs_get (x + 1) 0 e (by omega) (fun i hi => h0 q i hq hi hne) (by omega) (fun _ => ?_) (fun t => absurd t (by omega)))
  refine br_t rfl (br_t hn ?_)
  exact bs_run v (br_t rfl (br_t rfl H))
theorem bs_46 {post : Int32 → St0 → Prop} {la st : Int32} {a1 a2 a3 a4 a5 a6 a7 a8 a9 a10 a11 : Nat → Int32} {mc ms kc ks w : Nat} (x v o d y1 y2 z : Int32) (hw : w < 65536)
    (hb : ∀ i, i < 16 → a5 (32 * (x.toBitVec.toNat % 8) + i) = nI (w / 2 ^ i % 2))
    (h0 : ∀ r i, r < 8 → i < 16 → r ≠ x.toBitVec.toNat % 8 → a5 (32 * r + i) = nI (0 / 2 ^ i % 2)) (H : post 1 ()) :
    wL_lawOf_46 post mc ms x v o d y1 y2 (nI w) z z kc ks 0 0 la st a1 a2 a3 a4 a5 a6 a7 a8 a9 a10 a11 := by
  unfold wL_lawOf_46
  refine br_t rfl (bs_total (Nat.mod_lt _ (by omega)) hw hb h0 (br_t rfl (bs_emit o d y1 y2 (fun g => ?_) (fun g1 g2 => ?_))))
  · refine br_c (fun _ => bs_87 x v (-1) h0 rfl H) (fun n1 => br_c (fun _ => bs_87 x v (-1) h0 rfl H) (fun n2 => ?_))
    exact absurd g (fun t => t.elim n1 n2)
  · exact br_f g1 (br_f g2 (bs_87 x v 1 h0 rfl H))
theorem bs_init {post : St2 → Prop} (H : post (0, 0, 0, 0, (fun _ => 0), (fun _ => 0), (fun _ => 0), (fun _ => 0), (fun _ => 0), (fun _ => 0), (fun _ => 0), (fun _ => 0), (fun _ => 0), (fun _ => 0), (fun _ => 0))) : wpX_init post 11 1408 (0, 0, 0, 0) := by
  unfold wpX_init
  exact ⟨by omega, by omega, by omega, by omega, by omega, by omega, by omega, by omega, by omega, by omega, by omega, by omega, by omega, by omega, by omega, by omega, by omega, by omega, by omega, by omega, by omega, by omega, H⟩
theorem bs_zero (i : Nat) : (0 : Int32) = nI (0 / 2 ^ i % 2) := by
  rw [Nat.zero_div]
  rfl
theorem bs_lawOf {post : Int32 → St0 → Prop} (x v o d y1 y2 : Int32) (H : post 1 ()) : wpL_lawOf post 12 1423 () x v o d y1 y2 := by
  unfold wpL_lawOf
  refine ⟨by omega, by omega, 11, 1408, by omega, by omega, bs_init (bs_set x v (fun a a' h1 h2 => ?_))⟩
  have hw : v.toBitVec.toNat % 65536 < 65536 := Nat.mod_lt _ (by omega)
  have h0 : ∀ r i, r < 8 → i < 16 → r ≠ x.toBitVec.toNat % 8 → a (32 * r + i) = nI (0 / 2 ^ i % 2) := fun r i hr hi hn => (h2 r i hr (by omega) hn).trans (bs_zero i)
  refine nm_r (pk_and v (m := 65535) 16 (by decide)) ?_
  refine bs_get x (v.toBitVec.toNat % 65536) (pk_and x (m := 7) 3 (by decide)) (Nat.lt_of_lt_of_le (Nat.mod_lt _ (by decide)) (by decide)) h1 hw (fun g => ?_) (fun g => ?_)
  · exact br_t (nI_le (b := 32767) g (by decide)) (bs_46 x v o d y1 y2 _ hw h1 h0 H)
  · exact br_f (nI_ge (a := 32767) g (by omega)) (bs_46 x v o d y1 y2 _ hw h1 h0 H)
theorem bs_cell {post : Int32 → Prop} {L : Nat} {xs : Nat → Int32} (hL : L ≤ 6) (p : Nat) (hp : p < 6) (H : ∀ r, post r) : wpL_cellAt post L xs () (nI p) :=
  pk_le L p (fun _ => H 0) (fun z => ⟨pk_in p L z, H _⟩)
theorem i_vc (xs : Nat → Int32) (L : Nat) (hL : L ≤ 6) : wpL_law (fun r => r = 1) L xs := by
  unfold wpL_law
  exact bs_cell hL 0 (by omega) (fun r1 => bs_cell hL 1 (by omega) (fun r2 => bs_cell hL 2 (by omega) (fun r3 => bs_cell hL 3 (by omega) (fun r4 => bs_cell hL 4 (by omega) (fun r5 => bs_cell hL 5 (by omega) (fun r6 =>
    ⟨12, 1423, by omega, by omega, bs_lawOf r1 r2 r3 r4 r5 r6 rfl⟩))))))
end
