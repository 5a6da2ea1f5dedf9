section
/-! rows taken from kit/rows/PURE-ROWS.to-paste.lean.txt (a starting text) -/
theorem pk_us {f : Nat → Int32} {k : Nat} {x : Int32} : upd f k x k = x := if_pos rfl
theorem pk_un {f : Nat → Int32} {k j : Nat} {x : Int32} (h : j ≠ k) : upd f k x j = f j := if_neg h
theorem pk_sub {a b : Nat} (h : b ≤ a) : nI a - nI b = nI (a - b) := by
  obtain ⟨c, rfl⟩ : ∃ c, a = c + b := ⟨a - b, by omega⟩
  rw [← nI_add, Int32.add_sub_cancel, Nat.add_sub_cancel]
theorem pk_m1 (n : Nat) : nI (n + 1) + (-1) = nI n := by
  rw [← nI_1, Int32.add_assoc, show (1 : Int32) + (-1) = 0 from rfl, Int32.add_zero]
theorem pk_cl {x : Int32} (n : Nat) (hx : x = nI n := by rfl) (h : n < 2 ^ 31 := by omega) : x.toNatClampNeg = n := by
  subst hx
  exact nI_clamp h
theorem pk_tn {n : Nat} (h : n < 2 ^ 32) : (nI n).toBitVec.toNat = n := Nat.mod_eq_of_lt h
theorem pk_and (x : Int32) {m : Int32} (k : Nat) (hm : m.toBitVec.toNat = 2 ^ k - 1) : x &&& m = nI (x.toBitVec.toNat % 2 ^ k) := by
  apply Int32.toBitVec_inj.mp
  apply BitVec.eq_of_toNat_eq
  rw [Int32.toBitVec_and, BitVec.toNat_and, hm, Nat.and_two_pow_sub_one_eq_mod]
  show _ = (BitVec.ofNat 32 _).toNat
  rw [BitVec.toNat_ofNat]
  exact (Nat.mod_eq_of_lt (Nat.lt_of_le_of_lt (Nat.mod_le _ _) x.toBitVec.isLt)).symm
theorem pk_andE (x : Int32) {m : Int32} (k : Nat) (hm : m.toBitVec.toNat = 2 ^ k - 1) : ∃ j : Nat, j < 2 ^ k ∧ x &&& m = nI j := ⟨_, Nat.mod_lt _ (Nat.two_pow_pos k), pk_and x k hm⟩
theorem pk_nb (z : Int32) : narrow .byte (.int z.toInt8.toInt32) = .int z.toInt8.toInt32 := congrArg Value.int (by simp)
theorem pk_ns (z : Int32) : narrow .short (.int z.toInt16.toInt32) = .int z.toInt16.toInt32 := congrArg Value.int (by simp)
theorem pk_fs (r : Int32) : fits .short (.int r.toInt16.toInt32) = true := by
  have ⟨a, b⟩ := lg_i2s_range r
  have h1 : (-32768 : Int32).toInt = -32768 := by decide
  have h2 : (32767 : Int32).toInt = 32767 := by decide
  simp only [fits, Bool.and_eq_true, decide_eq_true_eq, Int32.le_iff_toInt_le, h1, h2]
  omega
theorem pk_vb (z : Int32) : vp_nar .byte z.toInt8.toInt32 = z.toInt8.toInt32 := by rw [vp_nar_byte]; simp
theorem pk_vs (z : Int32) : vp_nar .short z.toInt16.toInt32 = z.toInt16.toInt32 := by rw [vp_nar_short]; simp
end
section
/-- one more than the last place below s where g holds h; 0 if there is none -/
def hc_last (g : Nat → Int32) (h : Int32) : Nat → Nat
  | 0 => 0
  | s + 1 => if g s = h then s + 1 else hc_last g h s
theorem hc_last_le (g : Nat → Int32) (h : Int32) (s : Nat) : hc_last g h s ≤ s := by
  induction s with
  | zero => exact Nat.le_refl 0
  | succ s ih =>
    unfold hc_last
    split
    · exact Nat.le_refl _
    · omega
theorem hc_last_t {g : Nat → Int32} {h : Int32} {s : Nat} (e : g s = h) : hc_last g h (s + 1) = s + 1 := if_pos e
theorem hc_last_f {g : Nat → Int32} {h : Int32} {s : Nat} (e : ¬ g s = h) : hc_last g h (s + 1) = hc_last g h s := if_neg e
/-- a store at s changes nothing below s -/
theorem hc_last_upd (g : Nat → Int32) (h x : Int32) (s t : Nat) (ht : t ≤ s) : hc_last (upd g s x) h t = hc_last g h t := by
  induction t with
  | zero => rfl
  | succ t ih =>
    have e : upd g s x t = g t := pk_un (by omega)
    by_cases z : g t = h
    · rw [hc_last_t z, hc_last_t (e.trans z)]
    · rw [hc_last_f z, hc_last_f (fun y => z (e.symm.trans y))]
      exact ih (by omega)
/-- a small number as a short -/
theorem hc_short {j : Nat} (h : j < 32768) : (nI j).toInt16.toInt32 = nI j :=
  lg_i2s_small (by rw [nI_toInt (by omega)]; omega) (by rw [nI_toInt (by omega)]; omega)
/-- the hash of three bytes -/
def hc_hash (a b c : Int32) : Int32 := ((((a &&& 255) <<< ((2 : Int32) &&& 31)) ^^^ ((b &&& 255) <<< ((1 : Int32) &&& 31))) ^^^ (c &&& 255)) &&& 7
theorem hc_hash_lt (a b c : Int32) : ∃ j : Nat, j < 8 ∧ hc_hash a b c = nI j := pk_andE _ 3 (by decide)
/-- every hashed place's link is the last earlier place of its hash; every head the last place of its hash -/
def hc_P (n : Nat) (pv g : Nat → Int32) : Prop := ∀ s, s + 2 < n → pv s = nI (hc_last g (g s) s)
def hc_H (n : Nat) (hd g : Nat → Int32) : Prop := ∀ j, j < 8 → hd j = nI (hc_last g (nI j) (n - 2))
theorem hc_P_step {m j : Nat} {pv g : Nat → Int32} (h : hc_P (m + 2) pv g) : hc_P (m + 2 + 1) (upd pv m (nI (hc_last g (nI j) m))) (upd g m (nI j)) := by
  intro s hs
  rw [hc_last_upd g _ _ m s (by omega)]
  by_cases z : s = m
  · subst z
    rw [pk_us, pk_us]
  · rw [pk_un z, pk_un z]
    exact h s (by omega)
theorem hc_H_step {m j : Nat} {hd g : Nat → Int32} (hj : j < 8) (h : hc_H (m + 2) hd g) : hc_H (m + 2 + 1) (upd hd j (nI (m + 1))) (upd g m (nI j)) := by
  intro i hi
  show _ = nI (hc_last (upd g m (nI j)) (nI i) (m + 1))
  by_cases z : i = j
  · subst z
    rw [pk_us, hc_last_t pk_us]
  · have ne : ¬ upd g m (nI j) m = nI i := by
      rw [pk_us, nI_eq (by omega) (by omega)]
      omega
    rw [pk_un z, hc_last_f ne, hc_last_upd g _ _ m m (Nat.le_refl m)]
    exact h i hi
/-- the best match so far: none, or a length and a place that both sides hold -/
def hc_B (b : Nat) (bc ac : Int32) : Prop := (b = 0 ∧ bc = -1) ∨ (∃ a : Nat, a < 16 ∧ bc = nI a ∧ ac = nI a)
theorem hc_sub1 (x : Int32) : x - 1 = x + (-1) := Int32.sub_eq_add_neg x 1
end
section
section
variable {n p : Nat} {d : Int32} {w hd pv g : Nat → Int32}
/-- the end of longest: one answer and one distance -/
theorem hc_fin {b : Nat} {bc ac : Int32} (hb : b ≤ 16) (H : hc_B b bc ac) : ∃ r d' : Int32,
    (∀ post : Int32 → SX → Prop, post r (nI n, nI p, d', w, hd, pv) → wX_longest_138 post (nI b) bc (nI n) (nI p) d w hd pv) ∧
    (∀ post : Int32 → SY → Prop, post r (nI n, nI p, d', w, g) → wY_longest_125 post (nI b) ac (nI n) (nI p) d w g) := by
  by_cases h3 : 3 ≤ b
  · have i3 : (3 : Int32) ≤ nI b := nI_le (a := 3) h3 (by omega)
    rcases H with ⟨rfl, _⟩ | ⟨a, ha, rfl, rfl⟩
    · omega
    · have i0 : ¬ nI a < 0 := nI_pos (by omega)
      exact ⟨nI b, (nI p - nI a).toInt16.toInt32,
        fun post K => br_f i0 (br_t i3 (nm_e ⟨pk_ns _, pk_fs _, K⟩)),
        fun post K => br_t i3 (nm_e ⟨pk_ns _, pk_fs _, K⟩)⟩
  · have i3 : ¬ (3 : Int32) ≤ nI b := nI_ge (b := 3) (by omega) (by decide)
    refine ⟨0, 0, fun post K => br_c (fun _ => K) (fun _ => br_f i3 K), fun post K => br_f i3 K⟩
/-- the comparing loops: one length k for both -/
theorem hc_inner {c : Nat} (hn : n ≤ 16) (hc : c < p) : ∀ e k : Nat, k + e + p = n → ∃ kk : Nat, kk ≤ 16 ∧
    (∀ (post : Int32 → SX → Prop) (J : Int32 → Int32 → Int32 → Int32 → Prop) (x2 x3 x4 : Int32) (f : Nat), e < f →
      wX_longest_108 post J (nI (n - p)) x2 x3 x4 (nI c) (nI kk) (nI n) (nI p) d w hd pv →
      wX_longest_68 post J (nI (n - p)) x2 x3 x4 (nI c) (nI n) (nI p) d w hd pv f (nI k)) ∧
    (∀ (post : Int32 → SY → Prop) (J : Int32 → Int32 → Int32 → Int32 → Prop) (x1 x2 x3 : Int32) (f : Nat), e < f →
      wY_longest_107 post J x1 x2 x3 (nI c) (nI kk) (nI n) (nI p) d w g →
      wY_longest_62 post J x1 x2 x3 (nI c) (nI n) (nI p) d w g f (nI k)) := by
  intro e
  induction e with
  | zero =>
    intro k hk
    have hx : nI (n - p) ≤ nI k := nI_le (by omega) (by omega)
    have hy : nI n ≤ nI p + nI k := by rw [nI_add]; exact nI_le (by omega) (by omega)
    refine ⟨k, by omega, fun post J x2 x3 x4 f hf K => ?_, fun post J x1 x2 x3 f hf K => ?_⟩
    · obtain ⟨f, rfl⟩ : ∃ q, f = q + 1 := ⟨f - 1, by omega⟩
      exact br_t hx K
    · obtain ⟨f, rfl⟩ : ∃ q, f = q + 1 := ⟨f - 1, by omega⟩
      exact br_t hy K
  | succ e ih =>
    intro k hk
    have hx : ¬ nI (n - p) ≤ nI k := nI_ge (by omega) (by omega)
    have hy : ¬ nI n ≤ nI p + nI k := by rw [nI_add]; exact nI_ge (by omega) (by omega)
    have i1 : vp_in (nI c + nI k) 16 := by rw [nI_add]; exact vp_in_nI (by omega) (by omega)
    have i2 : vp_in (nI p + nI k) 16 := by rw [nI_add]; exact vp_in_nI (by omega) (by omega)
    by_cases z : w (nI c + nI k).toNatClampNeg = w (nI p + nI k).toNatClampNeg
    · obtain ⟨kk, hkk, hX, hY⟩ := ih (k + 1) (by omega)
      refine ⟨kk, hkk, fun post J x2 x3 x4 f hf K => ?_, fun post J x1 x2 x3 f hf K => ?_⟩
      · obtain ⟨f, rfl⟩ : ∃ q, f = q + 1 := ⟨f - 1, by omega⟩
        exact br_f hx ⟨i1, i2, br_t z (nm_r (nI_1 k) (hX post J x2 x3 x4 f (by omega) K))⟩
      · obtain ⟨f, rfl⟩ : ∃ q, f = q + 1 := ⟨f - 1, by omega⟩
        exact br_f hy ⟨i1, i2, br_t z (nm_r (nI_1 k) (hY post J x1 x2 x3 f (by omega) K))⟩
    · refine ⟨k, by omega, fun post J x2 x3 x4 f hf K => ?_, fun post J x1 x2 x3 f hf K => ?_⟩
      · obtain ⟨f, rfl⟩ : ∃ q, f = q + 1 := ⟨f - 1, by omega⟩
        exact br_f hx ⟨i1, i2, br_f z K⟩
      · obtain ⟨f, rfl⟩ : ∃ q, f = q + 1 := ⟨f - 1, by omega⟩
        exact br_f hy ⟨i1, i2, br_f z K⟩
/-- the outer loops in lockstep: X stands at the last place below c with pos's hash, Y at c - 1 -/
theorem hc_outer (hn : n ≤ 16) (hp : p + 3 ≤ n) (h1 : hc_P n pv g) : ∀ c : Nat, c ≤ p → ∀ (b sn : Nat) (bc ac : Int32), b ≤ 16 → sn ≤ 4 → hc_B b bc ac → ∃ r d' : Int32,
    (∀ (post : Int32 → SX → Prop) (f : Nat), c < f → post r (nI n, nI p, d', w, hd, pv) →
      wX_longest_48 post (nI (n - p)) (nI n) (nI p) d w hd pv f (nI b) bc (nI sn) (nI (hc_last g (g p) c))) ∧
    (∀ (post : Int32 → SY → Prop) (f : Nat), c < f → post r (nI n, nI p, d', w, g) →
      wY_longest_27 post (nI n) (nI p) d w g f (nI b) ac (nI sn) (nI c + (-1))) := by
  intro c
  induction c with
  | zero =>
    intro _ b sn bc ac hb _ H
    obtain ⟨r, d', hX, hY⟩ := hc_fin (n := n) (p := p) (d := d) (w := w) (hd := hd) (pv := pv) (g := g) hb H
    refine ⟨r, d', fun post f hf K => ?_, fun post f hf K => ?_⟩
    · obtain ⟨f, rfl⟩ : ∃ q, f = q + 1 := ⟨f - 1, by omega⟩
      have h0 : nI (hc_last g (g p) 0) ≤ 0 := Int32.le_refl _
      exact br_t h0 (hX post K)
    · obtain ⟨f, rfl⟩ : ∃ q, f = q + 1 := ⟨f - 1, by omega⟩
      have h0 : nI 0 + (-1) < 0 := by decide
      exact br_t h0 (hY post K)
  | succ c ih =>
    intro hc b sn bc ac hb hs H
    have y0 : ¬ nI c < 0 := nI_pos (by omega)
    rw [pk_m1]
    by_cases h4 : 4 ≤ sn
    · have i4 : (4 : Int32) ≤ nI sn := nI_le (a := 4) h4 (by omega)
      obtain ⟨r, d', hX, hY⟩ := hc_fin (n := n) (p := p) (d := d) (w := w) (hd := hd) (pv := pv) (g := g) hb H
      refine ⟨r, d', fun post f hf K => ?_, fun post f hf K => ?_⟩
      · obtain ⟨f, rfl⟩ : ∃ q, f = q + 1 := ⟨f - 1, by omega⟩
        exact br_c (fun _ => hX post K) (fun _ => br_t i4 (hX post K))
      · obtain ⟨f, rfl⟩ : ∃ q, f = q + 1 := ⟨f - 1, by omega⟩
        exact br_f y0 (br_t i4 (hY post K))
    · have i4 : ¬ (4 : Int32) ≤ nI sn := nI_ge (b := 4) (by omega) (by decide)
      have ic : vp_in (nI c) 16 := vp_in_nI (by omega) (by omega)
      have ip : vp_in (nI p) 16 := vp_in_nI (by omega) (by omega)
      have cc : (nI c).toNatClampNeg = c := nI_clamp (by omega)
      have cp : (nI p).toNatClampNeg = p := nI_clamp (by omega)
      by_cases z : g c = g p
      · have zz : g (nI c).toNatClampNeg = g (nI p).toNatClampNeg := by rw [cc, cp]; exact z
        have x0 : ¬ nI (c + 1) ≤ 0 := nI_nle (by omega) (by omega)
        have pe : pv (nI c).toNatClampNeg = nI (hc_last g (g p) c) := by rw [cc, h1 c (by omega), z]
        rw [hc_last_t z]
        obtain ⟨kk, hkk, jX, jY⟩ := hc_inner (n := n) (p := p) (d := d) (w := w) (hd := hd) (pv := pv) (g := g) (c := c) hn (by omega) (n - p) 0 (by omega)
        by_cases q : kk ≤ b
        · have iq : nI kk ≤ nI b := nI_le q (by omega)
          obtain ⟨r, d', hX, hY⟩ := ih (by omega) b (sn + 1) bc ac hb (by omega) H
          refine ⟨r, d', fun post f hf K => ?_, fun post f hf K => ?_⟩
          · obtain ⟨f, rfl⟩ : ∃ q, f = q + 1 := ⟨f - 1, by omega⟩
            exact br_f x0 (br_f i4 (nm_r (nI_pred c) ⟨n - p + 1, jX post _ _ _ _ _ (by omega)
              (br_t iq (nm_r (nI_1 sn) ⟨ic, nm_r pe (hX post f (by omega) K)⟩))⟩))
          · obtain ⟨f, rfl⟩ : ∃ q, f = q + 1 := ⟨f - 1, by omega⟩
            exact br_f y0 (br_f i4 ⟨ic, ip, br_t zz (nm_r (nI_1 sn) ⟨n - p + 1, jY post _ _ _ _ _ (by omega)
              (br_t iq (nm_e (hY post f (by omega) K)))⟩)⟩)
        · have iq : ¬ nI kk ≤ nI b := nI_ge (by omega) (by omega)
          obtain ⟨r, d', hX, hY⟩ := ih (by omega) kk (sn + 1) (nI c) (nI c) hkk (by omega) (Or.inr ⟨c, by omega, rfl, rfl⟩)
          refine ⟨r, d', fun post f hf K => ?_, fun post f hf K => ?_⟩
          · obtain ⟨f, rfl⟩ : ∃ q, f = q + 1 := ⟨f - 1, by omega⟩
            exact br_f x0 (br_f i4 (nm_r (nI_pred c) ⟨n - p + 1, jX post _ _ _ _ _ (by omega)
              (br_f iq (nm_r (nI_1 sn) ⟨ic, nm_r pe (hX post f (by omega) K)⟩))⟩))
          · obtain ⟨f, rfl⟩ : ∃ q, f = q + 1 := ⟨f - 1, by omega⟩
            exact br_f y0 (br_f i4 ⟨ic, ip, br_t zz (nm_r (nI_1 sn) ⟨n - p + 1, jY post _ _ _ _ _ (by omega)
              (br_f iq (nm_e (hY post f (by omega) K)))⟩)⟩)
      · have zz : ¬ g (nI c).toNatClampNeg = g (nI p).toNatClampNeg := by rw [cc, cp]; exact z
        rw [hc_last_f z]
        obtain ⟨r, d', hX, hY⟩ := ih (by omega) b sn bc ac hb hs H
        refine ⟨r, d', fun post f hf K => hX post f (by omega) K, fun post f hf K => ?_⟩
        obtain ⟨f, rfl⟩ : ∃ q, f = q + 1 := ⟨f - 1, by omega⟩
        exact br_f y0 (br_f i4 ⟨ic, ip, br_f zz (nm_e (hY post f (by omega) K))⟩)
end
end
section
/-- both sides hold one n (at most 16), one pos (at most n), one distance, one window; the links and heads are those of the reference's hashes -/
def i_Rel (_ : Nat) (u : SX) (v : SY) : Prop :=
  ∃ (n p : Nat) (d : Int32) (w hd pv g : Nat → Int32), u = (nI n, nI p, d, w, hd, pv) ∧ v = (nI n, nI p, d, w, g) ∧ n ≤ 16 ∧ p ≤ n ∧ hc_P n pv g ∧ hc_H n hd g
theorem i_up {k : Nat} {u : SX} {v : SY} (h : i_Rel k u v) : i_Rel (k + 2) u v := h
theorem i_vc0 : wpX_init (fun u => wpY_init (fun v => i_Rel 0 u v)) :=
  ⟨0, 0, 0, fun _ => 0, fun _ => 0, fun _ => 0, fun _ => 0, rfl, rfl, by omega, by omega, fun s hs => by omega, fun j _ => rfl⟩
theorem hc_hashAt {post : Int32 → Prop} {fn fp fd : Int32} {w hd pv : Nat → Int32} {m : Nat} (hm : m + 2 < 16) (K : post (hc_hash (w m) (w (m + 1)) (w (m + 2)))) : wpX_hashAt post (fn, fp, fd, w, hd, pv) (nI m) := by
  have e1 : nI m + 1 = nI (m + 1) := nI_1 m
  have e2 : nI m + 2 = nI (m + 2) := nI_add m 2
  unfold wpX_hashAt
  dsimp only
  rw [e1, e2, nI_clamp (n := m) (by omega), nI_clamp (n := m + 1) (by omega), nI_clamp (n := m + 2) (by omega)]
  exact ⟨vp_in_nI (by omega) (by omega), nm_e ⟨vp_in_nI (by omega) (by omega), nm_e ⟨vp_in_nI hm (by omega), nm_e K⟩⟩⟩
theorem i_vc_insert {k : Nat} {u : SX} {v : SY} (I : i_Rel k u v) (hk : k + 2 ≤ 1024) (v1 : Int32) : wpX_insert (fun r u' => wpY_insert (fun r' v' => r' = r ∧ i_Rel (k + 2) u' v') v v1) u v1 := by
  obtain ⟨n, p, d, w, hd, pv, g, rfl, rfl, hn, hp, h1, h2⟩ := I
  unfold wpX_insert wpY_insert
  dsimp only
  by_cases e : n = 16
  · have e16 : nI n = 16 := by rw [e]; rfl
    exact br_t e16 (br_t e16 ⟨rfl, n, p, d, w, hd, pv, g, rfl, rfl, hn, hp, h1, h2⟩)
  · have e16 : ¬ nI n = 16 := fun z => e ((nI_eq (b := 16) (by omega) (by decide)).mp z)
    have iN : vp_in (nI n) 16 := vp_in_nI (by omega) (by omega)
    rw [nI_clamp (n := n) (by omega), pk_vb, nI_1 n]
    refine br_f e16 ⟨iN, nm_e (nm_e ?_)⟩
    by_cases h3 : n + 1 < 3
    · have i3 : nI (n + 1) < 3 := nI_lt (b := 3) h3 (by decide)
      refine br_t i3 (br_f e16 (nm_e ⟨iN, nm_e (br_t i3 ⟨rfl, n + 1, p, d, _, hd, pv, g, rfl, rfl, by omega, by omega, fun s hs => by omega, fun j hj => ?_⟩)⟩))
      rw [h2 j hj, show n - 2 = 0 by omega, show n + 1 - 2 = 0 by omega]
    · have i3 : ¬ nI (n + 1) < 3 := nI_nlt (b := 3) (by omega) (by omega)
      obtain ⟨m, rfl⟩ : ∃ m, n = m + 2 := ⟨n - 2, by omega⟩
      have s3 : nI (m + 2 + 1) - 3 = nI m := pk_sub (a := m + 2 + 1) (b := 3) (by omega)
      have s2 : nI (m + 2 + 1) - 2 = nI (m + 1) := pk_sub (a := m + 2 + 1) (b := 2) (by omega)
      have s1 : nI (m + 2 + 1) - 1 = nI (m + 2) := pk_sub (a := m + 2 + 1) (b := 1) (by omega)
      refine br_f i3 (nm_r s3 (hc_hashAt (by omega) ?_))
      obtain ⟨j, hj, ej⟩ := hc_hash_lt (upd w (m + 2) v1.toInt8.toInt32 m) (upd w (m + 2) v1.toInt8.toInt32 (m + 1)) (upd w (m + 2) v1.toInt8.toInt32 (m + 2))
      have i8 : vp_in (nI j) 8 := vp_in_nI hj (by omega)
      have iM : vp_in (nI m) 16 := vp_in_nI (by omega) (by omega)
      have cm : (nI m).toNatClampNeg = m := nI_clamp (by omega)
      have cj : (nI j).toNatClampNeg = j := nI_clamp (by omega)
      have hle := hc_last_le g (nI j) m
      have aP : upd pv (nI m).toNatClampNeg (vp_nar .short (hd (nI j).toNatClampNeg)) = upd pv m (nI (hc_last g (nI j) m)) := by
        rw [cm, cj, h2 j hj, vp_nar_short]
        exact congrArg (upd pv m) (hc_short (j := hc_last g (nI j) m) (by omega))
      have aH : upd hd (nI j).toNatClampNeg (vp_nar .short (nI m + 1).toInt16.toInt32) = upd hd j (nI (m + 1)) := by
        rw [cj, pk_vs, nI_1 m, hc_short (by omega)]
      rw [ej]
      refine ⟨i8, iM, nm_r aP ⟨i8, nm_r aH (br_f e16 (nm_e ⟨iN, nm_e (br_f i3 ?_)⟩))⟩⟩
      rw [s3, s2, s1, cm, nI_clamp (n := m + 1) (by omega), nI_clamp (n := m + 2) (by omega)]
      have aG : upd g m (vp_nar .short (hc_hash (upd w (m + 2) v1.toInt8.toInt32 m) (upd w (m + 2) v1.toInt8.toInt32 (m + 1)) (upd w (m + 2) v1.toInt8.toInt32 (m + 2))).toInt16.toInt32) = upd g m (nI j) := by
        rw [ej, pk_vs, hc_short (by omega)]
      exact ⟨iM, vp_in_nI (by omega) (by omega), vp_in_nI (by omega) (by omega), iM, nm_r aG
        ⟨rfl, m + 2 + 1, p, d, _, _, _, _, rfl, rfl, by omega, by omega, hc_P_step h1, hc_H_step hj h2⟩⟩
theorem i_vc_seek {k : Nat} {u : SX} {v : SY} (I : i_Rel k u v) (hk : k + 2 ≤ 1024) (v1 : Int32) : wpX_seek (fun r u' => wpY_seek (fun r' v' => r' = r ∧ i_Rel (k + 2) u' v') v v1) u v1 := by
  obtain ⟨n, p, d, w, hd, pv, g, rfl, rfl, hn, hp, h1, h2⟩ := I
  unfold wpX_seek wpY_seek
  dsimp only
  by_cases h0 : v1 < 0
  · exact br_t h0 (br_t h0 ⟨rfl, n, p, d, w, hd, pv, g, rfl, rfl, hn, hp, h1, h2⟩)
  · by_cases hl : v1 ≤ nI n
    · obtain ⟨j, hj, rfl⟩ := nI_of h0
      have jn : j ≤ n := (nI_leI hj (by omega)).mp hl
      exact br_f h0 (br_t hl (br_f h0 (br_t hl ⟨rfl, n, j, d, w, hd, pv, g, rfl, rfl, hn, jn, h1, h2⟩)))
    · exact br_f h0 (br_f hl (br_f h0 (br_f hl ⟨rfl, n, p, d, w, hd, pv, g, rfl, rfl, hn, hp, h1, h2⟩)))
theorem i_vc_longest {k : Nat} {u : SX} {v : SY} (I : i_Rel k u v) (hk : k + 2 ≤ 1024) : wpX_longest (fun r u' => wpY_longest (fun r' v' => r' = r ∧ i_Rel (k + 2) u' v') v) u := by
  obtain ⟨n, p, d, w, hd, pv, g, rfl, rfl, hn, hp, h1, h2⟩ := I
  have e3 : nI p + 3 = nI (p + 3) := nI_add p 3
  unfold wpX_longest wpY_longest
  dsimp only
  rw [e3]
  by_cases h3 : p + 3 ≤ n
  · have x3 : nI (p + 3) ≤ nI n := nI_le h3 (by omega)
    have y3 : ¬ nI n < nI (p + 3) := nI_nlt h3 (by omega)
    have ip : vp_in (nI p) 16 := vp_in_nI (by omega) (by omega)
    have pe : pv (nI p).toNatClampNeg = nI (hc_last g (g p) p) := by rw [nI_clamp (by omega), h1 p (by omega)]
    obtain ⟨r, d', hX, hY⟩ := hc_outer (n := n) (p := p) (d := d) (w := w) (hd := hd) (pv := pv) (g := g) hn h3 h1 p (Nat.le_refl p) 0 0 (-1) 0 (by omega) (by omega) (Or.inl ⟨rfl, rfl⟩)
    exact br_t x3 (nm_r (pk_sub hp) ⟨ip, nm_r pe ⟨p + 1, hX _ (p + 1) (by omega)
      (br_f y3 (nm_r (hc_sub1 (nI p)) ⟨p + 1, hY _ (p + 1) (by omega) ⟨rfl, n, p, d', w, hd, pv, g, rfl, rfl, hn, hp, h1, h2⟩⟩))⟩⟩)
  · have x3 : ¬ nI (p + 3) ≤ nI n := nI_ge (by omega) (by omega)
    have y3 : nI n < nI (p + 3) := nI_lt (by omega) (by omega)
    have z3 : ¬ (3 : Int32) ≤ 0 := by decide
    exact br_f x3 (br_t y3 (br_f z3 ⟨rfl, n, p, 0, w, hd, pv, g, rfl, rfl, hn, hp, h1, h2⟩))
theorem i_vc_distance {k : Nat} {u : SX} {v : SY} (I : i_Rel k u v) (hk : k + 2 ≤ 1024) : wpX_distance (fun r => wpY_distance (fun r' => r' = r ∧ i_Rel (k + 2) u v) v) u := by
  obtain ⟨n, p, d, w, hd, pv, g, rfl, rfl, hn, hp, h1, h2⟩ := I
  exact ⟨rfl, n, p, d, w, hd, pv, g, rfl, rfl, hn, hp, h1, h2⟩
end
