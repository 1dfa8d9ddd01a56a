section
/-! rows taken from the kit's rows to paste (a starting text): stores, nI arithmetic, branches by naturals -/
theorem pk_uLs {f : Nat → Int64} {k : Nat} {x : Int64} : vp_updL f k x k = x := if_pos rfl
theorem pk_uLn {f : Nat → Int64} {k j : Nat} {x : Int64} (h : j ≠ k) : vp_updL f k x j = f j := if_neg h
theorem pk_sub {a b : Nat} (h : b ≤ a) : nI a - nI b = nI (a - b) := by
  obtain ⟨c, rfl⟩ : ∃ c, a = c + b := ⟨a - b, by omega⟩
  rw [← nI_add, Int32.add_sub_cancel, Nat.add_sub_cancel]
theorem pk_mul (a b : Nat) : nI a * nI b = nI (a * b) := (Int32.ofNat_mul a b).symm
theorem pk_div {a d : Nat} (ha : a < 2 ^ 31) (h0 : 0 < d) (hd : d < 2 ^ 31) : nI a / nI d = nI (a / d) := by
  apply Int32.toInt_inj.mp
  rw [lg_idiv_nonneg (by rw [nI_toInt ha]; omega) (by rw [nI_toInt hd]; omega), nI_toInt ha, nI_toInt hd, nI_toInt (Nat.lt_of_le_of_lt (Nat.div_le_self a d) ha)]
  first | rfl | exact (Int.natCast_ediv _ _).symm
theorem pk_rem {a d : Nat} (ha : a < 2 ^ 31) (h0 : 0 < d) (hd : d < 2 ^ 31) : nI a - nI a / nI d * nI d = nI (a % d) := by
  rw [pk_div ha h0 hd, pk_mul, pk_sub (Nat.div_mul_le_self a d)]
  exact congrArg nI (by have := Nat.div_add_mod' a d; omega)
theorem pk_le {x y : Int32} {A B : Prop} (a b : Nat) (f : a ≤ b → A) (g : b < a → B) (hx : x = nI a := by rfl) (hy : y = nI b := by rfl) (ha : a < 2 ^ 31 := by omega) (hb : b < 2 ^ 31 := by omega) : (x ≤ y → A) ∧ (¬ x ≤ y → B) := by
  subst hx hy
  rw [nI_leI ha hb]
  exact ⟨f, fun z => g (by omega)⟩
theorem pk_eq {x y : Int32} {A B : Prop} (a b : Nat) (f : a = b → A) (g : a ≠ b → B) (hx : x = nI a := by rfl) (hy : y = nI b := by rfl) (ha : a < 2 ^ 31 := by omega) (hb : b < 2 ^ 31 := by omega) : (x = y → A) ∧ (¬ x = y → B) := by
  subst hx hy
  rw [nI_eq ha hb]
  exact ⟨f, g⟩
end
section
/-! what the two mulR compute, in plain words: X's sums by place t, Y's sums by pair k; and that they agree -/
/-- X's two sums (lo, hi) at place t behind the pair (i, j) -/
def pl_st (h r : Nat → Int64) (t i j : Nat) (s : Int64 × Int64) : Int64 × Int64 :=
  if i + j = t then (s.1 + h i * r j, s.2) else if i + j = t + 5 then (s.1, s.2 + h i * r j) else s
/-- d steps of the loop over j -/
def pl_in (h r : Nat → Int64) (t i : Nat) : Nat → Nat → Int64 × Int64 → Int64 × Int64
  | 0, _, s => s
  | d + 1, j, s => pl_in h r t i d (j + 1) (pl_st h r t i j s)
/-- d steps of the loop over i -/
def pl_mid (h r : Nat → Int64) (t : Nat) : Nat → Nat → Int64 × Int64 → Int64 × Int64
  | 0, _, s => s
  | d + 1, i, s => pl_mid h r t d (i + 1) (pl_in h r t i 5 0 s)
/-- what X stores at place t -/
def pl_v (h r : Nat → Int64) (t : Nat) : Int64 := (pl_mid h r t 5 0 (0, 0)).1 + 5 * (pl_mid h r t 5 0 (0, 0)).2
/-- d steps of the loop over t -/
def pl_out (h r : Nat → Int64) : Nat → Nat → (Nat → Int64) → Nat → Int64
  | 0, _, a => a
  | d + 1, t, a => pl_out h r d (t + 1) (vp_updL a t (pl_v h r t))
/-- Y's step k -/
def pl_ys (h r : Nat → Int64) (k : Nat) (a : Nat → Int64) : Nat → Int64 :=
  if k / 5 + k % 5 ≤ 4 then vp_updL a (k / 5 + k % 5) (a (k / 5 + k % 5) + h (k / 5) * r (k % 5))
  else vp_updL a (k / 5 + k % 5 - 5) (a (k / 5 + k % 5 - 5) + h (k / 5) * r (k % 5) * 5)
/-- d steps of Y's loop over k -/
def pl_y (h r : Nat → Int64) : Nat → Nat → (Nat → Int64) → Nat → Int64
  | 0, _, a => a
  | d + 1, k, a => pl_y h r d (k + 1) (pl_ys h r k a)
/-- what Y's step k adds at place t -/
def pl_q (h r : Nat → Int64) (t k : Nat) (x : Int64) : Int64 :=
  if k / 5 + k % 5 = t then x + h (k / 5) * r (k % 5) else if k / 5 + k % 5 = t + 5 then x + h (k / 5) * r (k % 5) * 5 else x
/-- d steps of Y's loop, at place t alone -/
def pl_z (h r : Nat → Int64) (t : Nat) : Nat → Nat → Int64 → Int64
  | 0, _, x => x
  | d + 1, k, x => pl_z h r t d (k + 1) (pl_q h r t k x)
theorem pl_ysq {h r a : Nat → Int64} {t k : Nat} (ht : t < 5) : pl_ys h r k a t = pl_q h r t k (a t) := by
  unfold pl_ys pl_q
  by_cases c : k / 5 + k % 5 ≤ 4
  · rw [if_pos c]
    by_cases e : k / 5 + k % 5 = t
    · rw [if_pos e, e]
      exact pk_uLs
    · rw [if_neg e, if_neg (by omega)]
      exact pk_uLn (fun z => e z.symm)
  · rw [if_neg c, if_neg (by omega)]
    by_cases e : k / 5 + k % 5 = t + 5
    · rw [if_pos e, show k / 5 + k % 5 - 5 = t from by omega]
      exact pk_uLs
    · rw [if_neg e]
      exact pk_uLn (by omega)
theorem pl_yz {h r : Nat → Int64} {t : Nat} (ht : t < 5) : ∀ (d k : Nat) (a : Nat → Int64), pl_y h r d k a t = pl_z h r t d k (a t) := by
  intro d
  induction d with
  | zero => intro k a; rfl
  | succ d ih =>
    intro k a
    show pl_y h r d (k + 1) (pl_ys h r k a) t = pl_z h r t d (k + 1) (pl_q h r t k (a t))
    rw [ih, pl_ysq ht]
theorem pl_keep {h r : Nat → Int64} : ∀ (d t j : Nat) (a : Nat → Int64), j < t → pl_out h r d t a j = a j := by
  intro d
  induction d with
  | zero => intro t j a _; rfl
  | succ d ih =>
    intro t j a hj
    show pl_out h r d (t + 1) (vp_updL a t (pl_v h r t)) j = a j
    rw [ih (t + 1) j _ (by omega), pk_uLn (by omega)]
theorem pl_get {h r : Nat → Int64} : ∀ (d t j : Nat) (a : Nat → Int64), t ≤ j → j < t + d → pl_out h r d t a j = pl_v h r j := by
  intro d
  induction d with
  | zero => intro t j a h1 h2; omega
  | succ d ih =>
    intro t j a h1 h2
    show pl_out h r d (t + 1) (vp_updL a t (pl_v h r t)) j = pl_v h r j
    by_cases e : j = t
    · subst e
      rw [pl_keep _ _ _ _ (by omega), pk_uLs]
    · exact ih (t + 1) j _ (by omega) (by omega)
theorem pl_e0 (h r : Nat → Int64) : pl_v h r 0 = pl_z h r 0 25 0 0 := by
  simp [pl_v, pl_mid, pl_in, pl_st, pl_z, pl_q]
  grind
theorem pl_e1 (h r : Nat → Int64) : pl_v h r 1 = pl_z h r 1 25 0 0 := by
  simp [pl_v, pl_mid, pl_in, pl_st, pl_z, pl_q]
  grind
theorem pl_e2 (h r : Nat → Int64) : pl_v h r 2 = pl_z h r 2 25 0 0 := by
  simp [pl_v, pl_mid, pl_in, pl_st, pl_z, pl_q]
  grind
theorem pl_e3 (h r : Nat → Int64) : pl_v h r 3 = pl_z h r 3 25 0 0 := by
  simp [pl_v, pl_mid, pl_in, pl_st, pl_z, pl_q]
  grind
theorem pl_e4 (h r : Nat → Int64) : pl_v h r 4 = pl_z h r 4 25 0 0 := by
  simp [pl_v, pl_mid, pl_in, pl_st, pl_z, pl_q]
/-- the plain law: at every place X's sum is Y's -/
theorem pl_law {h r a e : Nat → Int64} (he : ∀ i, i < 5 → e i = 0) {t : Nat} (ht : t < 5) : pl_out h r 5 0 a t = pl_y h r 25 0 e t := by
  rw [pl_get 5 0 t a (by omega) (by omega), pl_yz ht, he t ht]
  match t, ht with
  | 0, _ => exact pl_e0 h r
  | 1, _ => exact pl_e1 h r
  | 2, _ => exact pl_e2 h r
  | 3, _ => exact pl_e3 h r
  | 4, _ => exact pl_e4 h r
end
section
/-! the walks of mulR: each printed loop against its plain function, the post general -/
theorem pl_x24 {post : Int64 → SX → Prop} {J2 : Int32 → (Nat → Int64) → (Nat → Int64) → (Nat → Int64) → Prop} {J15 : Int64 → Int64 → Int32 → Prop} {h r a : Nat → Int64} {t i : Nat} (ht : t < 5) (hi : i < 5) : ∀ d j : Nat, j + d = 5 → ∀ s : Int64 × Int64, J15 (pl_in h r t i d j s).1 (pl_in h r t i d j s).2 (nI (i + 1)) → wX_mulR_24 post J2 J15 (nI t) (nI i) h r a (d + 1) s.1 s.2 (nI j) := by
  intro d
  induction d with
  | zero =>
    intro j hj s H
    rw [wX_mulR_24]
    exact pk_le 5 j (fun _ => nm_r (nI_1 i) H) (fun z => absurd z (by omega))
  | succ d ih =>
    intro j hj s H
    have hn : j < 5 := by omega
    have ci : (nI i).toNatClampNeg = i := nI_clamp (by omega)
    have cj : (nI j).toNatClampNeg = j := nI_clamp (by omega)
    have H2 : J15 (pl_in h r t i d (j + 1) (pl_st h r t i j s)).1 (pl_in h r t i d (j + 1) (pl_st h r t i j s)).2 (nI (i + 1)) := H
    have K := ih (j + 1) (by omega) _ H2
    rw [wX_mulR_24]
    dsimp only
    rw [ci, cj]
    refine pk_le 5 j (fun z => absurd z (by omega)) (fun _ => nm_r (nI_add i j) ?_)
    refine pk_eq (i + j) t (fun e => ⟨vp_in_nI hi (by omega), vp_in_nI hn (by omega), nm_e (nm_r (nI_1 j) ?_)⟩) (fun e => pk_eq (i + j) (t + 5) (fun e2 => ⟨vp_in_nI hi (by omega), vp_in_nI hn (by omega), nm_e (nm_r (nI_1 j) ?_)⟩) (fun e2 => nm_r (nI_1 j) ?_) rfl (nI_add t 5))
    · have es : pl_st h r t i j s = (s.1 + h i * r j, s.2) := if_pos e
      rw [es] at K
      exact K
    · have es : pl_st h r t i j s = (s.1, s.2 + h i * r j) := (if_neg e).trans (if_pos e2)
      rw [es] at K
      exact K
    · have es : pl_st h r t i j s = s := (if_neg e).trans (if_neg e2)
      rw [es] at K
      exact K
theorem pl_x15 {post : Int64 → SX → Prop} {J2 : Int32 → (Nat → Int64) → (Nat → Int64) → (Nat → Int64) → Prop} {h r a : Nat → Int64} {t : Nat} (ht : t < 5) : ∀ d i : Nat, i + d = 5 → ∀ s : Int64 × Int64, J2 (nI (t + 1)) h r (vp_updL a t ((pl_mid h r t d i s).1 + 5 * (pl_mid h r t d i s).2)) → wX_mulR_15 post J2 (nI t) h r a (d + 1) s.1 s.2 (nI i) := by
  intro d
  have ct : (nI t).toNatClampNeg = t := nI_clamp (by omega)
  induction d with
  | zero =>
    intro i hi s H
    rw [wX_mulR_15, ct]
    exact pk_le 5 i (fun _ => ⟨vp_in_nI ht (by omega), nm_e (nm_r (nI_1 t) H)⟩) (fun z => absurd z (by omega))
  | succ d ih =>
    intro i hi s H
    have H2 : J2 (nI (t + 1)) h r (vp_updL a t ((pl_mid h r t d (i + 1) (pl_in h r t i 5 0 s)).1 + 5 * (pl_mid h r t d (i + 1) (pl_in h r t i 5 0 s)).2)) := H
    have K := ih (i + 1) (by omega) _ H2
    rw [wX_mulR_15]
    exact pk_le 5 i (fun z => absurd z (by omega)) (fun _ => ⟨6, pl_x24 ht (by omega) 5 0 (by omega) s K⟩)
theorem pl_x2 {post : Int64 → SX → Prop} {h r : Nat → Int64} : ∀ d t : Nat, t + d = 5 → ∀ a : Nat → Int64, (∃ m : Nat, wX_mulR_128 post m 0 0 h r (pl_out h r d t a)) → wX_mulR_2 post (d + 1) (nI t) h r a := by
  intro d
  induction d with
  | zero =>
    intro t ht a H
    rw [wX_mulR_2]
    exact pk_le 5 t (fun _ => H) (fun z => absurd z (by omega))
  | succ d ih =>
    intro t ht a H
    have K := ih (t + 1) (by omega) _ H
    rw [wX_mulR_2]
    exact pk_le 5 t (fun z => absurd z (by omega)) (fun _ => ⟨6, pl_x15 (by omega) 5 0 (by omega) (0, 0) K⟩)
theorem pl_m5 {m : Nat} (h : 5 ≤ m) : nI m + (-5) = nI (m - 5) := by
  have e : nI m - nI 5 = nI (m - 5) := pk_sub h
  rw [← e, Int32.sub_eq_add_neg]
  exact congrArg (fun z => nI m + z) (by decide)
theorem pl_y54 {post : Int64 → SY → Prop} {J2 : Int32 → (Nat → Int64) → (Nat → Int64) → (Nat → Int32) → Prop} {k t : Nat} {x : Int64} {h a : Nat → Int64} {r : Nat → Int32} (ht : t < 5) (H : J2 (nI (k + 1)) h (vp_updL a t (a t + x)) r) : wY_mulR_54 post J2 (nI k) (nI t) x h a r := by
  have ct : (nI t).toNatClampNeg = t := nI_clamp (by omega)
  rw [wY_mulR_54, ct]
  exact ⟨vp_in_nI ht (by omega), vp_in_nI ht (by omega), nm_e (nm_r (nI_1 k) H)⟩
theorem pl_y2 {post : Int64 → SY → Prop} {h : Nat → Int64} {r : Nat → Int32} : ∀ d k : Nat, k + d = 25 → ∀ a : Nat → Int64, (∃ m : Nat, wY_mulR_76 post m 0 0 h (pl_y h (fun i => (r i).toInt64) d k a) r) → wY_mulR_2 post (d + 1) (nI k) h a r := by
  intro d
  induction d with
  | zero =>
    intro k hk a H
    rw [wY_mulR_2]
    exact pk_le 25 k (fun _ => H) (fun z => absurd z (by omega))
  | succ d ih =>
    intro k hk a H
    have H2 : ∃ m : Nat, wY_mulR_76 post m 0 0 h (pl_y h (fun i => (r i).toInt64) d (k + 1) (pl_ys h (fun i => (r i).toInt64) k a)) r := H
    have K := ih (k + 1) (by omega) _ H2
    have d1 : k / 5 < 5 := by omega
    have d2 : k % 5 < 5 := by omega
    have c1 : (nI (k / 5)).toNatClampNeg = k / 5 := nI_clamp (by omega)
    have c2 : (nI (k % 5)).toNatClampNeg = k % 5 := nI_clamp (by omega)
    have e1 : nI k / 5 = nI (k / 5) := pk_div (d := 5) (by omega) (by omega) (by omega)
    have e2 : nI k - nI k / 5 * 5 = nI (k % 5) := pk_rem (d := 5) (by omega) (by omega) (by omega)
    have n5 : ¬ (5 : Int32) = 0 := by decide
    rw [wY_mulR_2]
    refine pk_le 25 k (fun z => absurd z (by omega)) (fun _ => ⟨n5, nm_r e1 ⟨n5, nm_r e2 (nm_r (nI_add (k / 5) (k % 5)) ⟨vp_in_nI d1 (by omega), vp_in_nI d2 (by omega), ?_⟩)⟩⟩)
    rw [c1, c2]
    refine nm_e (pk_le (k / 5 + k % 5) 4 (fun c => ?_) (fun c => nm_r (pl_m5 (by omega)) (nm_e ?_)))
    · have es : pl_ys h (fun i => (r i).toInt64) k a = vp_updL a (k / 5 + k % 5) (a (k / 5 + k % 5) + h (k / 5) * (r (k % 5)).toInt64) := if_pos c
      rw [es] at K
      exact pl_y54 (by omega) K
    · have es : pl_ys h (fun i => (r i).toInt64) k a = vp_updL a (k / 5 + k % 5 - 5) (a (k / 5 + k % 5 - 5) + h (k / 5) * (r (k % 5)).toInt64 * 5) := if_neg (by omega)
      rw [es] at K
      exact pl_y54 (by omega) K
/-- the last fold: five times the carry into place 0, its own carry into place 1 -/
def pl_f0 (h : Nat → Int64) (c : Int64) : Nat → Int64 := vp_updL h 0 ((h 0 + 5 * c) &&& 67108863)
def pl_f1 (h : Nat → Int64) (c : Int64) : Nat → Int64 := vp_updL (pl_f0 h c) 1 (pl_f0 h c 1 + ((h 0 + 5 * c).toUInt64 >>> ((26 : Int32).toInt64.toUInt64 &&& Int64.toUInt64 63)).toInt64)
/-- the carries, in lockstep: one answer, one new h; Y's sums are all zero behind it -/
theorem pl_car {r : Nat → Int64} {q : Nat → Int32} {dx : Nat → Int64} : ∀ d t : Nat, t + d = 5 → ∀ (c : Int64) (h dy : Nat → Int64), (∀ i, i < 5 → t ≤ i → dx i = dy i) → (∀ i, i < t → dy i = 0) → ∃ (v : Int64) (h' dz : Nat → Int64), (∀ i, i < 5 → dz i = 0) ∧ (∀ post : Int64 → SX → Prop, post v (h', r, dx) → wX_mulR_128 post (d + 1) c (nI t) h r dx) ∧ (∀ post : Int64 → SY → Prop, post v (h', dz, q) → wY_mulR_76 post (d + 1) c (nI t) h dy q) := by
  intro d
  induction d with
  | zero =>
    intro t ht c h dy _ hz
    have e5 : h 0 + c * 5 = h 0 + 5 * c := by rw [Int64.mul_comm]
    refine ⟨pl_f1 h c 0, pl_f1 h c, dy, fun i hi => hz i (by omega), fun post H => ?_, fun post H => ?_⟩
    · rw [wX_mulR_128]
      exact pk_le 5 t (fun _ => nm_e (nm_e (nm_e H))) (fun z => absurd z (by omega))
    · rw [wY_mulR_76]
      exact pk_le 5 t (fun _ => nm_r e5 (nm_e (nm_e H))) (fun z => absurd z (by omega))
  | succ d ih =>
    intro t ht c h dy hd hz
    have hn : t < 5 := by omega
    have ct : (nI t).toNatClampNeg = t := nI_clamp (by omega)
    have et : dx t = dy t := hd t hn (by omega)
    obtain ⟨v, h', dz, h0, hX, hY⟩ := ih (t + 1) (by omega) (((dx t + c).toUInt64 >>> ((26 : Int32).toInt64.toUInt64 &&& Int64.toUInt64 63)).toInt64) (vp_updL h t ((dx t + c) &&& 67108863)) (vp_updL dy t 0) (fun i h1 h2 => by rw [pk_uLn (by omega)]; exact hd i h1 (by omega)) (fun i h1 => by
      by_cases e : i = t
      · subst e; exact pk_uLs
      · rw [pk_uLn e]; exact hz i (by omega))
    refine ⟨v, h', dz, h0, fun post H => ?_, fun post H => ?_⟩
    · rw [wX_mulR_128]
      dsimp only
      rw [ct]
      exact pk_le 5 t (fun z => absurd z (by omega)) (fun _ => ⟨vp_in_nI hn (by omega), nm_e ⟨vp_in_nI hn (by omega), nm_e (nm_e (nm_r (nI_1 t) (hX post H)))⟩⟩)
    · rw [wY_mulR_76]
      dsimp only
      rw [ct, ← et]
      exact pk_le 5 t (fun z => absurd z (by omega)) (fun _ => ⟨vp_in_nI hn (by omega), nm_e ⟨vp_in_nI hn (by omega), nm_e ⟨vp_in_nI hn (by omega), nm_e (nm_e (nm_r (nI_1 t) (hY post H)))⟩⟩⟩)
end
section
/-- the same h; X's r is Y's r, widened; Y's sums are zero between calls (X's are scratch) -/
def i_Rel (_ : Nat) (u : SX) (v : SY) : Prop := ∃ (h d e : Nat → Int64) (r : Nat → Int32), u = (h, (fun i => (r i).toInt64), d) ∧ v = (h, e, r) ∧ ∀ i, i < 5 → e i = 0
theorem i_up {k : Nat} {u : SX} {v : SY} (h : i_Rel k u v) : i_Rel (k + 3) u v := h
theorem i_vc0 : wpX_init (fun u => wpY_init (fun v => i_Rel 0 u v)) := ⟨fun _ => 0, fun _ => 0, fun _ => 0, fun _ => 0, rfl, rfl, fun _ _ => rfl⟩
theorem pl_ix {x : Int32} (h0 : ¬ x < 0) (h4 : x ≤ 4) : vp_in x 5 := by
  obtain ⟨j, hj, rfl⟩ := nI_of2 (M := 4) (n := 4) (by decide) h0 h4
  exact vp_in_nI (by omega) (by omega)
theorem pl_set (r : Nat → Int32) (j : Nat) (x : Int32) : vp_updL (fun i => (r i).toInt64) j x.toInt64 = fun i => (upd r j x i).toInt64 := by
  funext i
  unfold vp_updL upd
  by_cases e : i = j
  · rw [if_pos e, if_pos e]
  · rw [if_neg e, if_neg e]
theorem i_vc_setR {k : Nat} {u : SX} {v : SY} (I : i_Rel k u v) (hk : k + 3 ≤ 1536) (v1 : Int32) (v2 : Int32) : wpX_setR (fun r u' => wpY_setR (fun r' v' => r' = r ∧ i_Rel (k + 3) u' v') v v1 v2) u v1 v2 := by
  obtain ⟨h, d, e, r, rfl, rfl, he⟩ := I
  unfold wpX_setR wpY_setR
  dsimp only
  by_cases h0 : v1 < 0
  · exact br_t h0 (br_t h0 ⟨rfl, h, d, e, r, rfl, rfl, he⟩)
  · by_cases h4 : v1 ≤ 4
    · have hi := pl_ix h0 h4
      exact br_f h0 (br_t h4 (nm_e ⟨hi, nm_r (pl_set r _ _) (br_f h0 (br_t h4 ⟨hi, nm_e ⟨rfl, h, d, e, _, rfl, rfl, he⟩⟩))⟩))
    · exact br_f h0 (br_f h4 (br_f h0 (br_f h4 ⟨rfl, h, d, e, r, rfl, rfl, he⟩)))
theorem i_vc_addLimb {k : Nat} {u : SX} {v : SY} (I : i_Rel k u v) (hk : k + 3 ≤ 1536) (v1 : Int32) (v2 : Int32) : wpX_addLimb (fun r u' => wpY_addLimb (fun r' v' => r' = r ∧ i_Rel (k + 3) u' v') v v1 v2) u v1 v2 := by
  obtain ⟨h, d, e, r, rfl, rfl, he⟩ := I
  unfold wpX_addLimb wpY_addLimb
  dsimp only
  by_cases h0 : v1 < 0
  · exact br_t h0 (br_t h0 ⟨rfl, h, d, e, r, rfl, rfl, he⟩)
  · by_cases h4 : v1 ≤ 4
    · have hi := pl_ix h0 h4
      exact br_f h0 (br_t h4 ⟨hi, hi, nm_e ⟨hi, br_f h0 (br_t h4 ⟨hi, hi, nm_e ⟨pk_uLs.symm, _, d, e, r, rfl, rfl, he⟩⟩)⟩⟩)
    · exact br_f h0 (br_f h4 (br_f h0 (br_f h4 ⟨rfl, h, d, e, r, rfl, rfl, he⟩)))
theorem i_vc_mulR {k : Nat} {u : SX} {v : SY} (I : i_Rel k u v) (hk : k + 3 ≤ 1536) : wpX_mulR (fun r u' => wpY_mulR (fun r' v' => r' = r ∧ i_Rel (k + 3) u' v') v) u := by
  obtain ⟨h, d, e, r, rfl, rfl, he⟩ := I
  obtain ⟨w, h', dz, hz, hX, hY⟩ := pl_car (r := fun i => (r i).toInt64) (q := r) (dx := pl_out h (fun i => (r i).toInt64) 5 0 d) 5 0 (by omega) 0 h (pl_y h (fun i => (r i).toInt64) 25 0 e) (fun i h1 _ => pl_law he h1) (fun i h1 => absurd h1 (by omega))
  unfold wpX_mulR wpY_mulR
  dsimp only
  exact ⟨6, pl_x2 5 0 (by omega) d ⟨6, hX _ ⟨26, pl_y2 25 0 (by omega) e ⟨6, hY _ ⟨rfl, h', _, dz, r, rfl, rfl, hz⟩⟩⟩⟩⟩
theorem i_vc_limb {k : Nat} {u : SX} {v : SY} (I : i_Rel k u v) (hk : k + 3 ≤ 1536) (v1 : Int32) : wpX_limb (fun r => wpY_limb (fun r' => r' = r ∧ i_Rel (k + 3) u v) v v1) u v1 := by
  have J : i_Rel (k + 3) u v := I
  obtain ⟨h, d, e, r, rfl, rfl, he⟩ := I
  unfold wpX_limb wpY_limb
  dsimp only
  by_cases h0 : v1 < 0
  · exact br_t h0 (br_t h0 ⟨rfl, J⟩)
  · by_cases h4 : v1 ≤ 4
    · have hi := pl_ix h0 h4
      exact br_f h0 (br_t h4 ⟨hi, br_f h0 (br_t h4 ⟨hi, rfl, J⟩)⟩)
    · exact br_f h0 (br_f h4 (br_f h0 (br_f h4 ⟨rfl, J⟩)))
end
