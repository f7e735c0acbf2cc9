section
theorem pk_us {f : Nat → Int32} {k : Nat} {x : Int32} : upd f k x k = x := if_pos rfl
theorem pk_un {f : Nat → Int32} {k j : Nat} {x : Int32} (h : j ≠ k) : upd f k x j = f j := if_neg h
theorem pk_sub {a b : Nat} (h : b ≤ a) : nI a - nI b = nI (a - b) := by
  obtain ⟨c, rfl⟩ : ∃ c, a = c + b := ⟨a - b, by omega⟩
  rw [← nI_add, Int32.add_sub_cancel, Nat.add_sub_cancel]
theorem pk_mul (a b : Nat) : nI a * nI b = nI (a * b) := (Int32.ofNat_mul a b).symm
theorem pk_div {a d : Nat} (ha : a < 2 ^ 31) (h0 : 0 < d) (hd : d < 2 ^ 31) : nI a / nI d = nI (a / d) := by
  apply Int32.toInt_inj.mp
  rw [lg_idiv_nonneg (by rw [nI_toInt ha]; omega) (by rw [nI_toInt hd]; omega), nI_toInt ha, nI_toInt hd, nI_toInt (Nat.lt_of_le_of_lt (Nat.div_le_self a d) ha)]
  first | rfl | exact (Int.natCast_ediv _ _).symm
theorem pk_rem {a d : Nat} (ha : a < 2 ^ 31) (h0 : 0 < d) (hd : d < 2 ^ 31) : nI a - nI a / nI d * nI d = nI (a % d) := by
  rw [pk_div ha h0 hd, pk_mul, pk_sub (Nat.div_mul_le_self a d)]
  exact congrArg nI (by have := Nat.div_add_mod' a d; omega)
theorem pk_sub_toInt {a b : Nat} (ha : a < 2 ^ 30) (hb : b < 2 ^ 30) : (nI a - nI b).toInt = (a : Int) - b := by
  rw [Int32.toInt_sub, nI_toInt (by omega), nI_toInt (by omega)]
  exact Int.bmod_eq_of_le (by omega) (by omega)
theorem pk_lT {n : Nat} (h : n < 2 ^ 63) : (lN n).toInt = (n : Int) := lg_ofNat_toInt h
theorem pk_lLT {a b : Nat} (ha : a < 2 ^ 63) (hb : b < 2 ^ 63) : lN a < lN b ↔ a < b := by
  rw [Int64.lt_iff_toInt_lt, pk_lT ha, pk_lT hb]; omega
theorem pk_lLE {a b : Nat} (ha : a < 2 ^ 63) (hb : b < 2 ^ 63) : lN a ≤ lN b ↔ a ≤ b := by
  rw [Int64.le_iff_toInt_le, pk_lT ha, pk_lT hb]; omega
theorem pk_lEQ {a b : Nat} (ha : a < 2 ^ 63) (hb : b < 2 ^ 63) : lN a = lN b ↔ a = b := by
  rw [← Int64.toInt_inj, pk_lT ha, pk_lT hb]; omega
theorem pk_lDiv {a b : Nat} (ha : a < 2 ^ 63) (h0 : 0 < b) (hb : b < 2 ^ 63) : lN a / lN b = lN (a / b) := by
  apply Int64.toInt_inj.mp
  rw [lg_ldiv_nonneg (by rw [pk_lT ha]; omega) (by rw [pk_lT hb]; omega), pk_lT ha, pk_lT hb, pk_lT (Nat.lt_of_le_of_lt (Nat.div_le_self a b) ha)]
  rfl
theorem pk_lRem {a b : Nat} (ha : a < 2 ^ 63) (h0 : 0 < b) (hb : b < 2 ^ 63) : lN a - lN a / lN b * lN b = lN (a % b) := by
  rw [pk_lDiv ha h0 hb, lN_mul, lN_sub (Nat.div_mul_le_self a b)]
  exact congrArg lN (by have := Nat.div_add_mod' a b; omega)
end
section
/-- the place in the ramp of the value that cell t holds, when the ramp is turned by ro -/
def rf_k (ro t : Nat) : Nat := if t < ro then t + 12 - ro else t - ro
theorem rf_kd (ro t : Nat) : (t < ro ∧ rf_k ro t = t + 12 - ro) ∨ (ro ≤ t ∧ rf_k ro t = t - ro) := by
  by_cases h : t < ro
  · exact Or.inl ⟨h, if_pos h⟩
  · exact Or.inr ⟨by omega, if_neg h⟩
theorem rf_klt {ro t : Nat} (hr : ro < 12) (ht : t < 12) : rf_k ro t ≤ 11 := by
  have a := rf_kd ro t
  omega
/-- the cells are the ramp b, b + s, .., b + 11 s turned by ro -/
def rf_C (c : Nat → Int32) (b s : Int32) (ro : Nat) : Prop :=
  ro < 12 ∧ 0 < s.toInt ∧ b.toInt + 11 * s.toInt ≤ 2147483647 ∧ ∀ t, t < 12 → (c t).toInt = b.toInt + (rf_k ro t : Int) * s.toInt
theorem rf_mul {s : Int} (hs : 0 < s) (a b : Nat) : (a : Int) * s ≤ (b : Int) * s ↔ a ≤ b := by
  rw [Int.mul_le_mul_right hs]
  omega
theorem rf_le {c : Nat → Int32} {b s : Int32} {ro t u : Nat} (H : rf_C c b s ro) (ht : t < 12) (hu : u < 12) : c t ≤ c u ↔ rf_k ro t ≤ rf_k ro u := by
  rw [Int32.le_iff_toInt_le, H.2.2.2 t ht, H.2.2.2 u hu, ← rf_mul H.2.1]
  omega
theorem rf_lt {c : Nat → Int32} {b s : Int32} {ro t u : Nat} (H : rf_C c b s ro) (ht : t < 12) (hu : u < 12) : c t < c u ↔ rf_k ro t < rf_k ro u := by
  rw [← Int32.not_le, rf_le H hu ht]
  omega
theorem rf_12 : (12 : Int32) = nI 12 := by decide
theorem rf_2 : (2 : Int32) = nI 2 := by decide
theorem rf_mid {a b : Nat} (h : a + b < 2 ^ 31) : (nI a + nI b) / 2 = nI ((a + b) / 2) := by
  rw [nI_add, rf_2]
  exact pk_div h (by decide) (by decide)
theorem rf_m12 {a : Nat} (h : a < 2 ^ 31) : nI a - nI a / 12 * 12 = nI (a % 12) := by
  rw [rf_12]
  exact pk_rem h (by decide) (by decide)
theorem rf_pred {h : Nat} (hh : h ≤ 12) : (nI h - 1).toInt = (h : Int) - 1 := pk_sub_toInt (a := h) (b := 1) (by omega) (by decide)
theorem rf_hlt {h lo : Nat} (z : h ≤ lo) (hl : lo ≤ 12) : nI h - 1 < nI lo := by
  rw [Int32.lt_iff_toInt_lt, rf_pred (by omega), nI_toInt (by omega)]
  omega
/-- a turn's length: every int gives one below 12 -/
theorem rf_r (p : Int32) : ∃ r : Nat, r < 12 ∧ ((p - p / 12 * 12) + 12) - ((p - p / 12 * 12) + 12) / 12 * 12 = nI r := by
  have e := rem_toInt p 12
  have t := tmod_bounds (a := p.toInt) (M := (12 : Int32).toInt) (by decide)
  have h12 : (12 : Int32).toInt = 12 := by decide
  rw [← e] at t
  generalize p - p / 12 * 12 = y at t ⊢
  rw [h12] at t
  have ey : (y + 12).toInt = y.toInt + 12 := by
    rw [Jvm.Kit.i32_add (by rw [h12]; omega) (by rw [h12]; omega), h12]
  have em : y + 12 = nI (y.toInt + 12).toNat := by
    apply Int32.toInt_inj.mp
    rw [ey, nI_toInt (by omega)]
    omega
  rw [em, rf_m12 (by omega)]
  exact ⟨_, Nat.mod_lt _ (by decide), rfl⟩
theorem rf_js {s : Int} (hs : 0 < s) {j : Nat} (hj : j ≤ 11) : 0 ≤ (j : Int) * s ∧ (j : Int) * s ≤ 11 * s := by
  have a := (rf_mul hs 0 j).mpr (by omega)
  have b := (rf_mul hs j 11).mpr hj
  omega
theorem rf_b64 {z : Int} (h1 : -9223372036854775808 ≤ z) (h2 : z < 9223372036854775808) : z.bmod (2 ^ 64) = z := Int.bmod_eq_of_le (by omega) (by omega)
theorem rf_b32 {z : Int} (h1 : -2147483648 ≤ z) (h2 : z < 2147483648) : z.bmod (2 ^ 32) = z := Int.bmod_eq_of_le (by omega) (by omega)
/-- what fill writes into cell j -/
theorem rf_val {b s : Int32} (hs : 0 < s.toInt) (ht : b.toInt + 11 * s.toInt ≤ 2147483647) {j : Nat} (hj : j < 12) : ((b.toInt64 + ((nI j).toInt64 * s.toInt64)).toInt32).toInt = b.toInt + (j : Int) * s.toInt := by
  have a := rf_js hs (j := j) (by omega)
  have b1 := b.le_toInt
  have s1 := s.toInt_lt
  rw [Int64.toInt_toInt32, Int64.toInt_add, Int64.toInt_mul, Int32.toInt_toInt64, Int32.toInt_toInt64, Int32.toInt_toInt64, nI_toInt (by omega)]
  generalize (j : Int) * s.toInt = m at a ⊢
  rw [rf_b64 (z := m) (by omega) (by omega), rf_b64 (by omega) (by omega), rf_b32 (by omega) (by omega)]
/-- fill's test for the top of the ramp -/
theorem rf_top (b s : Int32) : (b.toInt64 + (11 * s.toInt64)) ≤ 2147483647 ↔ b.toInt + 11 * s.toInt ≤ 2147483647 := by
  have b1 := b.le_toInt
  have b2 := b.toInt_lt
  have s1 := s.toInt_lt
  have s2 := s.le_toInt
  have e1 : (2147483647 : Int64).toInt = 2147483647 := by decide
  have e2 : (11 : Int64).toInt = 11 := by decide
  rw [Int64.le_iff_toInt_le, Int64.toInt_add, Int64.toInt_mul, Int32.toInt_toInt64, Int32.toInt_toInt64, e1, e2, rf_b64 (z := 11 * s.toInt) (by omega) (by omega), rf_b64 (by omega) (by omega)]
/-- what the reference answers for cell j -/
theorem rf_atv {c : Nat → Int32} {b s : Int32} {ro j : Nat} (H : rf_C c b s ro) (hj : j < 12) : b + ((((nI j - nI ro) + 12) - ((nI j - nI ro) + 12) / 12 * 12) * s) = c j := by
  have hr := H.1
  have e : (nI j - nI ro) + 12 = nI (j + 12 - ro) := by
    rw [← pk_sub (by omega), ← nI_add, rf_12]
    grind
  have k := rf_kd ro j
  have m : (j + 12 - ro) % 12 = rf_k ro j := by omega
  rw [e, rf_m12 (by omega), m]
  apply Int32.toInt_inj.mp
  have h := H.2.2.2 j hj
  have q1 := (c j).le_toInt
  have q2 := (c j).toInt_lt
  rw [Int32.toInt_add, Int32.toInt_mul, nI_toInt (by have := rf_klt hr hj; omega), Int.add_bmod_bmod, ← h]
  exact rf_b32 (by omega) (by omega)
/-- the turn: the cells of a ramp turned by ro, turned by r more -/
theorem rf_turn {c d : Nat → Int32} {b s : Int32} {ro r : Nat} (H : rf_C c b s ro) (hr : r < 12) (hd : ∀ j, j < 12 → d ((j + r) % 12) = c j) : rf_C d b s ((ro + r) % 12) := by
  have ho := H.1
  refine ⟨Nat.mod_lt _ (by decide), H.2.1, H.2.2.1, fun t ht => ?_⟩
  have e := hd ((t + 12 - r) % 12) (Nat.mod_lt _ (by decide))
  have e2 : ((t + 12 - r) % 12 + r) % 12 = t := by omega
  rw [e2] at e
  have k1 := rf_kd ((ro + r) % 12) t
  have k2 := rf_kd ro ((t + 12 - r) % 12)
  have e3 : rf_k ((ro + r) % 12) t = rf_k ro ((t + 12 - r) % 12) := by omega
  rw [e, e3]
  exact H.2.2.2 _ (Nat.mod_lt _ (by decide))
end
section
theorem rf_k0 (t : Nat) : rf_k 0 t = t := by
  have a := rf_kd 0 t
  omega
/-- the constructor's loop -/
theorem rf_init {post : SX → Prop} (hp : ∀ c tm : Nat → Int32, (∀ j, j < 12 → c j = nI j) → post (c, tm)) : wpX_init post := by
  refine loop_0 (σ := Nat → Int32) (fun n i c => wX_init_22 post n (nI i) c (fun _ => 0)) (fun i c => ∀ j, j < i → c j = nI j) 12 (fun _ => 0) lt_0 (fun n c h => ?_) (fun n i c hi h k => ?_)
  · show wX_init_22 post (n + 1) (nI 12) c (fun _ => 0)
    exact br_t (nI_le (a := 12) (b := 12) (by decide) (by decide)) (hp c _ h)
  · show wX_init_22 post (n + 1) (nI i) c (fun _ => 0)
    have e := nI_clamp (n := i) (by omega)
    refine br_f (nI_ge (b := 12) hi (by decide)) ⟨vp_in_nI hi (by decide), nm_e (nm_r (nI_1 i) (k _ ?_))⟩
    rw [e]
    exact lt_s (fun a ha => (pk_un (by omega)).trans (h a ha)) pk_us
/-- fill's loop -/
theorem rf_fill {post : Int32 → SX → Prop} {b s : Int32} {c tm : Nat → Int32} (hs : 0 < s.toInt) (ht : b.toInt + 11 * s.toInt ≤ 2147483647) (hp : ∀ d : Nat → Int32, (∀ j : Nat, j < 12 → (d j).toInt = b.toInt + (j : Int) * s.toInt) → post 0 (d, tm)) : ∃ n, wX_fill_30 post b s n 0 c tm := by
  refine loop_0 (σ := Nat → Int32) (fun n i c => wX_fill_30 post b s n (nI i) c tm) (fun i c => ∀ j : Nat, j < i → (c j).toInt = b.toInt + (j : Int) * s.toInt) 12 c lt_0 (fun n c h => ?_) (fun n i c hi h k => ?_)
  · show wX_fill_30 post b s (n + 1) (nI 12) c tm
    exact br_t (nI_le (a := 12) (b := 12) (by decide) (by decide)) (hp c h)
  · show wX_fill_30 post b s (n + 1) (nI i) c tm
    have e := nI_clamp (n := i) (by omega)
    refine br_f (nI_ge (b := 12) hi (by decide)) ⟨vp_in_nI hi (by decide), nm_e (nm_r (nI_1 i) (k _ ?_))⟩
    rw [e]
    refine lt_s (fun a ha => ?_) ?_
    · rw [pk_un (by omega)]
      exact h a ha
    · rw [pk_us]
      exact rf_val hs ht hi
/-- pivot's loop: the turn lies between lo and hi -/
theorem rf_piv {c tm : Nat → Int32} {b s : Int32} {ro : Nat} (H : rf_C c b s ro) {post : Int32 → Prop} (hp : post (nI ro)) : ∀ n lo hi : Nat, lo ≤ ro → ro ≤ hi → hi < 12 → hi - lo < n → wX_pivot_5 post c tm n (nI lo) (nI hi) := by
  intro n
  induction n with
  | zero => intro lo hi _ _ _ h; omega
  | succ n ih =>
    intro lo hi h1 h2 h3 h4
    by_cases h : hi ≤ lo
    · have e : lo = ro := by omega
      rw [e]
      exact br_t (nI_le (by omega) (by omega)) hp
    · have hm := rf_mid (a := lo) (b := hi) (by omega)
      have m1 : lo ≤ (lo + hi) / 2 ∧ (lo + hi) / 2 < hi := by omega
      generalize (lo + hi) / 2 = mid at hm m1
      have k1 := rf_kd ro mid
      have k2 := rf_kd ro hi
      refine br_f (nI_ge (by omega) (by omega)) ⟨by decide, nm_r hm ⟨vp_in_nI (by omega) (by omega), vp_in_nI h3 (by omega), ?_⟩⟩
      rw [nI_clamp (n := mid) (by omega), nI_clamp (n := hi) (by omega)]
      by_cases z : c mid ≤ c hi
      · have z' := (rf_le H (by omega) h3).mp z
        exact br_t z (ih lo mid h1 (by omega) (by omega) (by omega))
      · have z' := mt (rf_le H (by omega) h3).mpr z
        exact br_f z (nm_r (nI_1 mid) (ih (mid + 1) hi (by omega) h2 h3 (by omega)))
theorem rf_pivot {c tm : Nat → Int32} {b s : Int32} {ro : Nat} (H : rf_C c b s ro) {post : Int32 → Prop} (hp : post (nI ro)) : wpX_pivot post (c, tm) :=
  ⟨12, rf_piv H hp 12 0 11 (by omega) (by have := H.1; omega) (by decide) (by decide)⟩
/-- spin's second loop -/
theorem rf_s44 {post : Int32 → SX → Prop} {c tm : Nat → Int32} (hp : ∀ d : Nat → Int32, (∀ j, j < 12 → d j = tm j) → wpX_pivot (fun r => post r (d, tm)) (d, tm)) : ∃ n, wX_spin_44 post n 0 c tm := by
  refine loop_0 (σ := Nat → Int32) (fun n i c => wX_spin_44 post n (nI i) c tm) (fun i c => ∀ j : Nat, j < i → c j = tm j) 12 c lt_0 (fun n c h => ?_) (fun n i c hi h k => ?_)
  · show wX_spin_44 post (n + 1) (nI 12) c tm
    exact br_t (nI_le (a := 12) (b := 12) (by decide) (by decide)) (hp c h)
  · show wX_spin_44 post (n + 1) (nI i) c tm
    have e := nI_clamp (n := i) (by omega)
    refine br_f (nI_ge (b := 12) hi (by decide)) ⟨vp_in_nI hi (by decide), vp_in_nI hi (by decide), nm_e (nm_r (nI_1 i) (k _ ?_))⟩
    rw [e]
    exact lt_s (fun a ha => (pk_un (by omega)).trans (h a ha)) pk_us
/-- spin's first loop -/
theorem rf_s13 {post : Int32 → SX → Prop} {c tm : Nat → Int32} {r : Nat} (hr : r < 12) (hp : ∀ d : Nat → Int32, (∀ j, j < 12 → d ((j + r) % 12) = c j) → ∃ n, wX_spin_44 post n 0 c d) : ∃ n, wX_spin_13 post (nI r) n 0 c tm := by
  refine loop_0 (σ := Nat → Int32) (fun n i d => wX_spin_13 post (nI r) n (nI i) c d) (fun i d => ∀ j : Nat, j < i → d ((j + r) % 12) = c j) 12 tm lt_0 (fun n d h => ?_) (fun n i d hi h k => ?_)
  · show wX_spin_13 post (nI r) (n + 1) (nI 12) c d
    exact br_t (nI_le (a := 12) (b := 12) (by decide) (by decide)) (hp d h)
  · show wX_spin_13 post (nI r) (n + 1) (nI i) c d
    have e := nI_clamp (n := i) (by omega)
    have em : (nI i + nI r) - (nI i + nI r) / 12 * 12 = nI ((i + r) % 12) := by
      rw [nI_add]
      exact rf_m12 (by omega)
    have e2 := nI_clamp (n := (i + r) % 12) (by omega)
    refine br_f (nI_ge (b := 12) hi (by decide)) ⟨by decide, vp_in_nI hi (by decide), ?_⟩
    rw [em, e, e2]
    refine ⟨vp_in_nI (by omega) (by decide), nm_e (nm_r (nI_1 i) (k _ ?_))⟩
    exact lt_s (fun a ha => (pk_un (by omega)).trans (h a ha)) pk_us
/-- find's loop: a cell that holds x lies from lo up to below h -/
theorem rf_fnd {c tm : Nat → Int32} {b s x : Int32} {ro : Nat} (H : rf_C c b s ro) {post : Int32 → Prop} (h1 : ∀ t, t < 12 → c t = x → post (nI t)) (h2 : (∀ t, t < 12 → ¬ c t = x) → post (-1)) : ∀ n lo h : Nat, lo ≤ 12 → h ≤ 12 → h - lo < n → (∀ t, t < 12 → c t = x → lo ≤ t ∧ t < h) → wX_find_5 post x c tm n (nI lo) (nI h - 1) := by
  intro n
  induction n with
  | zero => intro lo h _ _ hn; omega
  | succ n ih =>
    intro lo h hl hh hn B
    by_cases z : h ≤ lo
    · exact br_t (rf_hlt z hl) (h2 fun t ht e => by have := B t ht e; omega)
    · obtain ⟨g, rfl⟩ : ∃ g, h = g + 1 := ⟨h - 1, by omega⟩
      rw [nI_pred]
      have hm := rf_mid (a := lo) (b := g) (by omega)
      have m1 : lo ≤ (lo + g) / 2 ∧ (lo + g) / 2 ≤ g := by omega
      generalize (lo + g) / 2 = mid at hm m1
      have L : (∀ t, t < 12 → c t = x → mid < t) → wX_find_5 post x c tm n (nI (mid + 1)) (nI g) := fun q => by
        have i := ih (mid + 1) (g + 1) (by omega) (by omega) (by omega) (fun t ht e => ⟨q t ht e, (B t ht e).2⟩)
        rw [nI_pred] at i
        exact i
      have R : (∀ t, t < 12 → c t = x → t < mid) → wX_find_5 post x c tm n (nI lo) (nI mid - 1) := fun q =>
        ih lo mid (by omega) (by omega) (by omega) (fun t ht e => ⟨(B t ht e).1, q t ht e⟩)
      refine br_f (nI_nlt (by omega) (by omega)) ⟨by decide, nm_r hm ⟨vp_in_nI (by omega) (by omega), nm_r (congrArg c (nI_clamp (n := mid) (by omega))) ?_⟩⟩
      by_cases e : c mid = x
      · exact br_t e (h1 mid (by omega) e)
      · refine br_f e ⟨vp_in_nI (by omega) (by omega), ?_⟩
        rw [nI_clamp (n := lo) (by omega), nI_clamp (n := g) (by omega)]
        have k1 := rf_kd ro lo
        have k2 := rf_kd ro mid
        have k3 := rf_kd ro g
        have hlo : lo < 12 := by omega
        have hmi : mid < 12 := by omega
        have hg : g < 12 := by omega
        have hr := H.1
        have F : ∀ t, t < 12 → c t = x → lo ≤ t ∧ t ≤ g ∧ t ≠ mid ∧ ((t < ro ∧ rf_k ro t = t + 12 - ro) ∨ (ro ≤ t ∧ rf_k ro t = t - ro)) ∧ (x ≤ c mid ↔ rf_k ro t ≤ rf_k ro mid) ∧ (c g < x ↔ rf_k ro g < rf_k ro t) ∧ (x < c lo ↔ rf_k ro t < rf_k ro lo) ∧ (c mid ≤ x ↔ rf_k ro mid ≤ rf_k ro t) := by
          intro t ht et
          have bt := B t ht et
          refine ⟨bt.1, by omega, fun w => e (by rw [← w]; exact et), rf_kd ro t, ?_⟩
          rw [← et]
          exact ⟨rf_le H ht hmi, rf_lt H hg ht, rf_lt H ht hlo, rf_le H hmi ht⟩
        by_cases w : c mid < c lo
        · have w' := (rf_lt H hmi hlo).mp w
          refine br_t w (br_c (fun y => nm_e (R fun t ht et => ?_)) (fun y => ⟨vp_in_nI hg (by omega), br_c (fun y2 => nm_e (R fun t ht et => ?_)) (fun y2 => nm_r (nI_1 mid) (L fun t ht et => ?_))⟩))
          · obtain ⟨f1, f2, f3, f4, f5, f6, f7, f8⟩ := F t ht et
            have y' := f5.mp y
            clear f5 f6 f7 f8 y w
            omega
          · obtain ⟨f1, f2, f3, f4, f5, f6, f7, f8⟩ := F t ht et
            have y' := mt f5.mpr y
            have y2' := f6.mp y2
            clear f5 f6 f7 f8 y y2 w
            omega
          · obtain ⟨f1, f2, f3, f4, f5, f6, f7, f8⟩ := F t ht et
            have y' := mt f5.mpr y
            have y2' := mt f6.mpr y2
            clear f5 f6 f7 f8 y y2 w
            omega
        · have w' := mt (rf_lt H hmi hlo).mpr w
          refine br_f w ⟨vp_in_nI hlo (by omega), br_c (fun y => nm_r (nI_1 mid) (L fun t ht et => ?_)) (fun y => br_c (fun y2 => nm_r (nI_1 mid) (L fun t ht et => ?_)) (fun y2 => nm_e (R fun t ht et => ?_)))⟩
          · obtain ⟨f1, f2, f3, f4, f5, f6, f7, f8⟩ := F t ht et
            have y' := f7.mp y
            clear f5 f6 f7 f8 y w
            omega
          · obtain ⟨f1, f2, f3, f4, f5, f6, f7, f8⟩ := F t ht et
            have y' := mt f7.mpr y
            have y2' := f8.mp y2
            clear f5 f6 f7 f8 y y2 w
            omega
          · obtain ⟨f1, f2, f3, f4, f5, f6, f7, f8⟩ := F t ht et
            have y' := mt f7.mpr y
            have y2' := mt f8.mpr y2
            clear f5 f6 f7 f8 y y2 w
            omega
theorem rf_find {c tm : Nat → Int32} {b s x : Int32} {ro : Nat} (H : rf_C c b s ro) {post : Int32 → Prop} (h1 : ∀ t, t < 12 → c t = x → post (nI t)) (h2 : (∀ t, t < 12 → ¬ c t = x) → post (-1)) : wpX_find post (c, tm) x := by
  have i := rf_fnd (tm := tm) H h1 h2 13 0 (11 + 1) (by decide) (by decide) (by decide) (fun t ht _ => ⟨Nat.zero_le _, ht⟩)
  rw [nI_pred] at i
  exact ⟨13, i⟩
end
section
theorem rf_s64 {s : Int32} (hs : 0 < s.toInt) : s.toInt64 = lN s.toInt.toNat := by
  have s1 := s.toInt_lt
  apply Int64.toInt_inj.mp
  rw [Int32.toInt_toInt64, pk_lT (by omega)]
  omega
theorem rf_dI (x b : Int32) : (x.toInt64 - b.toInt64).toInt = x.toInt - b.toInt := by
  have b1 := b.le_toInt
  have b2 := b.toInt_lt
  have x1 := x.le_toInt
  have x2 := x.toInt_lt
  rw [Int64.toInt_sub, Int32.toInt_toInt64, Int32.toInt_toInt64]
  exact rf_b64 (by omega) (by omega)
theorem rf_d64 {x b : Int32} {d : Nat} (h : x.toInt - b.toInt = d) : x.toInt64 - b.toInt64 = lN d := by
  have b1 := b.le_toInt
  have x2 := x.toInt_lt
  apply Int64.toInt_inj.mp
  rw [rf_dI, pk_lT (by omega), h]
theorem rf_l0 : (0 : Int64) = lN 0 := by decide
theorem rf_l11 : (11 : Int64) = lN 11 := by decide
/-- the reference's find, at d = x - b, over naturals -/
theorem rf_yf {b s x : Int32} {ro d n : Nat} (hn : s.toInt = (n : Int)) (h0 : 0 < n) (hr : ro < 12) (hd : x.toInt - b.toInt = d) {post : Int32 → Prop} (h1 : d % n = 0 → d / n ≤ 11 → post (nI ((d / n + ro) % 12))) (h2 : ¬ (d % n = 0 ∧ d / n ≤ 11) → post (-1)) : wpY_find post (b, s, nI ro) x := by
  have s1 := s.toInt_lt
  have b1 := b.le_toInt
  have x2 := x.toInt_lt
  have es : s.toInt64 = lN n := by
    rw [rf_s64 (by omega), hn]
    rfl
  have hd63 : d < 2 ^ 63 := by omega
  have hn63 : n < 2 ^ 63 := by omega
  have hq63 : d / n < 2 ^ 63 := Nat.lt_of_le_of_lt (Nat.div_le_self d n) hd63
  have hm63 : d % n < 2 ^ 63 := Nat.lt_of_le_of_lt (Nat.mod_le d n) hd63
  have nn : ¬ lN n = 0 := by
    rw [rf_l0, pk_lEQ hn63 (by decide)]
    omega
  unfold wpY_find
  dsimp only
  rw [es, rf_d64 hd]
  refine nm_e ?_
  rw [pk_lRem hd63 h0 hn63, pk_lDiv hd63 h0 hn63]
  refine br_f ?_ ⟨nn, ?_⟩
  · rw [rf_l0, pk_lLT hd63 (by decide)]
    omega
  by_cases z : d % n = 0
  · refine br_t (by rw [z]; exact rf_l0.symm) ⟨nn, nm_e ?_⟩
    by_cases q : d / n ≤ 11
    · refine br_t (by rw [rf_l11, pk_lLE hq63 (by decide)]; exact q) ⟨by decide, ?_⟩
      rw [lN_i, nI_add, rf_m12 (by omega)]
      exact h1 z q
    · exact br_f (by rw [rf_l11, pk_lLE hq63 (by decide)]; exact q) (h2 fun w => q w.2)
  · refine br_f ?_ (h2 fun w => z w.1)
    rw [rf_l0, pk_lEQ hm63 (by decide)]
    exact z
/-- a value of the ramp: the reference answers its cell -/
theorem rf_yfS {b s x : Int32} {ro q : Nat} (hs : 0 < s.toInt) (hr : ro < 12) (hq : q ≤ 11) (hx : x.toInt = b.toInt + (q : Int) * s.toInt) {post : Int32 → Prop} (hp : post (nI ((q + ro) % 12))) : wpY_find post (b, s, nI ro) x := by
  have hn : s.toInt = (s.toInt.toNat : Int) := by omega
  have h0 : 0 < s.toInt.toNat := by omega
  generalize s.toInt.toNat = n at hn h0
  have hd : x.toInt - b.toInt = ((q * n : Nat) : Int) := by
    rw [hx, hn, Int.natCast_mul]
    omega
  have e1 : q * n % n = 0 := Nat.mul_mod_left q n
  have e2 : q * n / n = q := Nat.mul_div_cancel q h0
  refine rf_yf hn h0 hr hd (fun _ _ => ?_) (fun w => absurd ⟨e1, by rw [e2]; exact hq⟩ w)
  rw [e2]
  exact hp
/-- no value of the ramp: the reference answers -1 -/
theorem rf_yfN {b s x : Int32} {ro : Nat} (hs : 0 < s.toInt) (hr : ro < 12) (hx : ∀ q : Nat, q ≤ 11 → ¬ x.toInt = b.toInt + (q : Int) * s.toInt) {post : Int32 → Prop} (hp : post (-1)) : wpY_find post (b, s, nI ro) x := by
  by_cases z : x.toInt < b.toInt
  · unfold wpY_find
    dsimp only
    refine nm_e (br_t ?_ hp)
    rw [Int64.lt_iff_toInt_lt, rf_dI, show (0 : Int64).toInt = 0 from by decide]
    omega
  · have hn : s.toInt = (s.toInt.toNat : Int) := by omega
    have h0 : 0 < s.toInt.toNat := by omega
    generalize s.toInt.toNat = n at hn h0
    have hd : x.toInt - b.toInt = ((x.toInt - b.toInt).toNat : Int) := by omega
    generalize (x.toInt - b.toInt).toNat = d at hd
    refine rf_yf hn h0 hr hd (fun h1 h2 => absurd ?_ (hx (d / n) h2)) (fun _ => hp)
    have e : d = d / n * n := by
      have := Nat.div_add_mod' d n
      omega
    have e' : (d : Int) = ((d / n : Nat) : Int) * (n : Int) := by
      rw [← Int.natCast_mul, ← e]
    rw [hn, ← e']
    omega
end
section
/-- the cells are the ramp of the reference's base and step, turned by its rot -/
def i_Rel (_ : Nat) (u : SX) (v : SY) : Prop := ∃ (c tm : Nat → Int32) (b s : Int32) (ro : Nat), u = (c, tm) ∧ v = (b, s, nI ro) ∧ rf_C c b s ro
theorem i_up {k : Nat} {u : SX} {v : SY} (h : i_Rel k u v) : i_Rel (k + 3) u v := h
theorem i_vc0 : wpX_init (fun u => wpY_init (fun v => i_Rel 0 u v)) := by
  refine rf_init fun c tm h => ⟨c, tm, 0, 1, 0, rfl, rfl, by decide, by decide, by decide, fun t ht => ?_⟩
  rw [h t ht, rf_k0, nI_toInt (by omega), show (0 : Int32).toInt = 0 from by decide, show (1 : Int32).toInt = 1 from by decide]
  omega
theorem i_vc_fill {k : Nat} {u : SX} {v : SY} (I : i_Rel k u v) (hk : k + 3 ≤ 1536) (v1 : Int32) (v2 : Int32) : wpX_fill (fun r u' => wpY_fill (fun r' v' => r' = r ∧ i_Rel (k + 3) u' v') v v1 v2) u v1 v2 := by
  have I' := i_up I
  obtain ⟨c, tm, b, s, ro, rfl, rfl, H⟩ := I
  by_cases h : 0 < v2
  · by_cases hT : (v1.toInt64 + (11 * v2.toInt64)) ≤ 2147483647
    · have hs : 0 < v2.toInt := by
        rw [Int32.lt_iff_toInt_lt] at h
        exact h
      have ht := (rf_top v1 v2).mp hT
      refine br_t h (nm_e (br_t hT (rf_fill hs ht fun d hd => br_t h (br_t hT ⟨rfl, d, tm, v1, v2, 0, rfl, rfl, by decide, hs, ht, fun t htt => ?_⟩))))
      rw [rf_k0]
      exact hd t htt
    · exact br_t h (nm_e (br_f hT (br_t h (br_f hT ⟨rfl, I'⟩))))
  · exact br_f h (br_f h ⟨rfl, I'⟩)
theorem i_vc_spin {k : Nat} {u : SX} {v : SY} (I : i_Rel k u v) (hk : k + 3 ≤ 1536) (v1 : Int32) : wpX_spin (fun r u' => wpY_spin (fun r' v' => r' = r ∧ i_Rel (k + 3) u' v') v v1) u v1 := by
  obtain ⟨c, tm, b, s, ro, rfl, rfl, H⟩ := I
  obtain ⟨r, hr, er⟩ := rf_r v1
  have ho := H.1
  have ef : (nI ro + nI r) - (nI ro + nI r) / 12 * 12 = nI ((ro + r) % 12) := by
    rw [nI_add]
    exact rf_m12 (by omega)
  refine And.intro (by decide) (And.intro (by decide) (nm_r er (rf_s13 hr fun d hd => rf_s44 fun e he => ?_)))
  have H' : rf_C e b s ((ro + r) % 12) := rf_turn H hr fun j hj => (he _ (Nat.mod_lt _ (by decide))).trans (hd j hj)
  refine rf_pivot H' ?_
  exact And.intro (by decide) (And.intro (by decide) (nm_r er (And.intro (by decide) (nm_r ef ⟨ef, e, d, b, s, _, rfl, rfl, H'⟩))))
theorem i_vc_find {k : Nat} {u : SX} {v : SY} (I : i_Rel k u v) (hk : k + 3 ≤ 1536) (v1 : Int32) : wpX_find (fun r => wpY_find (fun r' => r' = r ∧ i_Rel (k + 3) u v) v v1) u v1 := by
  have I' := i_up I
  obtain ⟨c, tm, b, s, ro, rfl, rfl, H⟩ := I
  have hr := H.1
  refine rf_find H (fun t ht e => ?_) (fun n => ?_)
  · have a := rf_kd ro t
    have q := rf_klt hr ht
    have m : (rf_k ro t + ro) % 12 = t := by omega
    refine rf_yfS H.2.1 hr q ?_ ⟨congrArg nI m, I'⟩
    rw [← e]
    exact H.2.2.2 t ht
  · refine rf_yfN H.2.1 hr (fun q hq e => ?_) ⟨rfl, I'⟩
    have a := rf_kd ro ((q + ro) % 12)
    have m : rf_k ro ((q + ro) % 12) = q := by omega
    refine n ((q + ro) % 12) (Nat.mod_lt _ (by decide)) (Int32.toInt_inj.mp ?_)
    rw [H.2.2.2 _ (Nat.mod_lt _ (by decide)), m, e]
theorem i_vc_pivot {k : Nat} {u : SX} {v : SY} (I : i_Rel k u v) (hk : k + 3 ≤ 1536) : wpX_pivot (fun r => wpY_pivot (fun r' => r' = r ∧ i_Rel (k + 3) u v) v) u := by
  have I' := i_up I
  obtain ⟨c, tm, b, s, ro, rfl, rfl, H⟩ := I
  exact rf_pivot H ⟨rfl, I'⟩
theorem i_vc_at {k : Nat} {u : SX} {v : SY} (I : i_Rel k u v) (hk : k + 3 ≤ 1536) (v1 : Int32) : wpX_at (fun r => wpY_at (fun r' => r' = r ∧ i_Rel (k + 3) u v) v v1) u v1 := by
  have I' := i_up I
  obtain ⟨c, tm, b, s, ro, rfl, rfl, H⟩ := I
  by_cases h0 : v1 < 0
  · exact br_t h0 (br_t h0 ⟨rfl, I'⟩)
  · by_cases h1 : v1 ≤ 11
    · obtain ⟨j, hj, rfl⟩ := nI_of2 (M := 11) (n := 11) (by decide) h0 h1
      refine br_f h0 (br_t h1 ⟨vp_in_nI (by omega) (by decide), ?_⟩)
      rw [nI_clamp (n := j) (by omega)]
      exact br_f h0 (br_t h1 ⟨by decide, rf_atv H (by omega), I'⟩)
    · exact br_f h0 (br_f h1 (br_f h0 (br_f h1 ⟨rfl, I'⟩)))
end
