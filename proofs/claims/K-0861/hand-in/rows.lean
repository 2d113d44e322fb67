section
/-! rows taken from kit/rows/PURE-ROWS (starting text): pk_us .. pk_vs -/
theorem pk_us {f : Nat → Int32} {k : Nat} {x : Int32} : upd f k x k = x := if_pos rfl
theorem pk_un {f : Nat → Int32} {k j : Nat} {x : Int32} (h : j ≠ k) : upd f k x j = f j := if_neg h
theorem pk_sub {a b : Nat} (h : b ≤ a) : nI a - nI b = nI (a - b) := by
  obtain ⟨c, rfl⟩ : ∃ c, a = c + b := ⟨a - b, by omega⟩
  rw [← nI_add, Int32.add_sub_cancel, Nat.add_sub_cancel]
theorem pk_mul (a b : Nat) : nI a * nI b = nI (a * b) := (Int32.ofNat_mul a b).symm
theorem pk_div {a d : Nat} (ha : a < 2 ^ 31) (h0 : 0 < d) (hd : d < 2 ^ 31) : nI a / nI d = nI (a / d) := by
  apply Int32.toInt_inj.mp
  rw [lg_idiv_nonneg (by rw [nI_toInt ha]; omega) (by rw [nI_toInt hd]; omega), nI_toInt ha, nI_toInt hd, nI_toInt (Nat.lt_of_le_of_lt (Nat.div_le_self a d) ha)]
  first | rfl | exact (Int.natCast_ediv _ _).symm
theorem pk_rem {a d : Nat} (ha : a < 2 ^ 31) (h0 : 0 < d) (hd : d < 2 ^ 31) : nI a - nI a / nI d * nI d = nI (a % d) := by
  rw [pk_div ha h0 hd, pk_mul, pk_sub (Nat.div_mul_le_self a d)]
  exact congrArg nI (by have := Nat.div_add_mod' a d; omega)
theorem pk_vb (z : Int32) : vp_nar .byte z.toInt8.toInt32 = z.toInt8.toInt32 := by rw [vp_nar_byte]; simp
theorem pk_vs (z : Int32) : vp_nar .short z.toInt16.toInt32 = z.toInt16.toInt32 := by rw [vp_nar_short]; simp

/-! own rows: the ranges that keep short and byte stores exact -/
/-- every credit lies in -300 .. 500 -/
def cs_C (a : Nat → Int32) : Prop := ∀ j, -300 ≤ (a j).toInt ∧ (a j).toInt ≤ 500
/-- every weight lies in 0 .. 100 -/
def cs_W (w : Nat → Int32) : Prop := ∀ j, ∃ m : Nat, m ≤ 100 ∧ w j = nI m
theorem cs_C0 : cs_C (fun _ => 0) := by
  intro j
  show -300 ≤ (0 : Int32).toInt ∧ (0 : Int32).toInt ≤ 500
  decide
theorem cs_W0 : cs_W (fun _ => 0) := fun _ => ⟨0, by omega, rfl⟩
theorem cs_Cu {a : Nat → Int32} {p : Nat} {x : Int32} (h : cs_C a) (hx : -300 ≤ x.toInt ∧ x.toInt ≤ 500) : cs_C (upd a p x) := by
  intro j
  by_cases e : j = p
  · subst e
    rw [pk_us]
    exact hx
  · rw [pk_un e]
    exact h j
theorem cs_Wu {w : Nat → Int32} {p m : Nat} (h : cs_W w) (hm : m ≤ 100) : cs_W (upd w p (nI m)) := by
  intro j
  by_cases e : j = p
  · subst e
    rw [pk_us]
    exact ⟨m, hm, rfl⟩
  · rw [pk_un e]
    exact h j
theorem cs_uu {a : Nat → Int32} {p : Nat} {x y : Int32} : upd (upd a p x) p y = upd a p y := by
  funext j
  by_cases e : j = p
  · subst e
    rw [pk_us, pk_us]
  · rw [pk_un e, pk_un e, pk_un e]
theorem cs_b {m : Nat} (h : m ≤ 100) : vp_nar .byte (nI m).toInt8.toInt32 = nI m := by
  have e : (nI m).toInt = (m : Int) := nI_toInt (by omega)
  rw [pk_vb]
  exact lg_i2b_small (by omega) (by omega)
theorem cs_s {x : Int32} (h1 : -32768 ≤ x.toInt) (h2 : x.toInt < 32768) : x.toInt16.toInt32 = x := lg_i2s_small h1 h2
theorem cs_vs {x : Int32} (h1 : -32768 ≤ x.toInt) (h2 : x.toInt < 32768) : vp_nar .short x.toInt16.toInt32 = x := (pk_vs x).trans (cs_s h1 h2)
theorem cs_m300 : vp_nar .short (-300) = -300 := by rw [vp_nar_short]; decide
theorem cs_rem {c k : Nat} (hc : c < 6) (hk : k ≤ 7) : (nI c + nI k) - (nI c + nI k) / 6 * 6 = nI ((c + k) % 6) := by
  rw [nI_add]
  exact pk_rem (d := 6) (by omega) (by omega) (by omega)
theorem cs_sub {x : Int32} (h : -300 ≤ x.toInt ∧ x.toInt ≤ 500) : (x - 100).toInt = x.toInt - 100 := by
  have e : (100 : Int32).toInt = 100 := by decide
  rw [Jvm.Kit.i32_sub (by rw [e]; omega) (by rw [e]; omega), e]
/-- what account stores at one place, for both sides: the sum, cut at 500 -/
theorem cs_step {c v : Int32} {t : Nat} (h : -300 ≤ c.toInt ∧ c.toInt ≤ 500) (hv : ∃ m : Nat, m ≤ 100 ∧ v = nI m) (h0 : 0 < t) (ht : t ≤ 600) : ∃ x : Int32, (-300 ≤ x.toInt ∧ x.toInt ≤ 500) ∧ ∀ P : Int32 → Prop, P x → ∀ y, y = c + 600 * v / nI t → (y ≤ 500 → P y) ∧ (¬ y ≤ 500 → P 500) := by
  obtain ⟨m, hm, rfl⟩ := hv
  have e5 : (500 : Int32).toInt = 500 := by decide
  have eq : (600 : Int32) * nI m / nI t = nI (600 * m / t) := by
    have e1 : (600 : Int32) * nI m = nI (600 * m) := pk_mul 600 m
    rw [e1]
    exact pk_div (by omega) h0 (by omega)
  have hq : 600 * m / t ≤ 600 * m := Nat.div_le_self _ _
  generalize hQ : 600 * m / t = Q at eq hq
  have hn : (nI Q).toInt = (Q : Int) := nI_toInt (by omega)
  have es : (c + 600 * nI m / nI t).toInt = c.toInt + (Q : Int) := by
    rw [eq, Jvm.Kit.i32_add (by rw [hn]; omega) (by rw [hn]; omega), hn]
  by_cases z : c + 600 * nI m / nI t ≤ 500
  · have z' := Int32.le_iff_toInt_le.mp z
    rw [e5] at z'
    refine ⟨_, ⟨by omega, z'⟩, fun P hP y ey => ?_⟩
    subst ey
    exact br_t z hP
  · refine ⟨500, by rw [e5]; omega, fun P hP y ey => ?_⟩
    subst ey
    exact br_f z hP
end
section
/-! run: X stops at the first credit above 0, Y walks on with its pick -/
theorem cs_yt {a w : Nat → Int32} {c p : Nat} (hp : p < 6) {post : Int32 → SY → Prop} (h : wY_run_55 post (nI p) (nI c) a w) : ∀ d k : Nat, k + d = 7 → wY_run_4 post (nI c) a w (d + 1) (nI p) (nI k) := by
  have h0 : (0 : Int32) ≤ nI p := nI_pos' (by omega)
  intro d
  induction d with
  | zero =>
    intro k hk
    have h6 : (6 : Int32) < nI k := nI_lt (a := 6) (by omega) (by omega)
    exact br_t h6 (br_t h0 h)
  | succ d ih =>
    intro k hk
    have h6 : ¬ (6 : Int32) < nI k := nI_nlt (a := 6) (by omega) (by omega)
    exact br_f h6 ⟨by decide, nm_e (br_t h0 (nm_r (nI_1 k) (ih (k + 1) (by omega))))⟩
theorem cs_scan {a w : Nat → Int32} {c : Nat} (hc : c < 6) : ∀ d k : Nat, k + d = 7 → ∃ p : Nat, p < 6 ∧ (∀ post : Int32 → SX → Prop, wX_run_48 post (nI p) (nI c) a w → wX_run_12 post (nI ((c + 1) % 6)) (nI c) a w (d + 1) (nI k)) ∧ (∀ post : Int32 → SY → Prop, wY_run_55 post (nI p) (nI c) a w → wY_run_4 post (nI c) a w (d + 1) (-1) (nI k)) := by
  have hm : ¬ (0 : Int32) ≤ -1 := by decide
  intro d
  induction d with
  | zero =>
    intro k hk
    have h6 : (6 : Int32) < nI k := nI_lt (a := 6) (by omega) (by omega)
    exact ⟨(c + 1) % 6, by omega, fun _ h => br_t h6 h, fun _ h => br_t h6 (br_f hm ⟨by decide, nm_r (cs_rem (k := 1) hc (by omega)) h⟩)⟩
  | succ d ih =>
    intro k hk
    have h6 : ¬ (6 : Int32) < nI k := nI_nlt (a := 6) (by omega) (by omega)
    have e : (nI c + nI k) - (nI c + nI k) / 6 * 6 = nI ((c + k) % 6) := cs_rem hc (by omega)
    have hq : (c + k) % 6 < 6 := by omega
    have hi : vp_in (nI ((c + k) % 6)) 6 := vp_in_nI hq (by omega)
    by_cases z : a (nI ((c + k) % 6)).toNatClampNeg ≤ 0
    · obtain ⟨p, hp, fX, fY⟩ := ih (k + 1) (by omega)
      refine ⟨p, hp, fun post h => br_f h6 ⟨by decide, nm_r e ⟨hi, br_t z (nm_r (nI_1 k) (fX post h))⟩⟩, fun post h => br_f h6 ⟨by decide, nm_r e (br_f hm ⟨hi, br_t z (nm_r (nI_1 k) (fY post h))⟩)⟩⟩
    · refine ⟨(c + k) % 6, hq, fun post h => br_f h6 ⟨by decide, nm_r e ⟨hi, br_f z h⟩⟩, fun post h => br_f h6 ⟨by decide, nm_r e (br_f hm ⟨hi, br_f z (nm_r (nI_1 k) (cs_yt hq h d (k + 1) (by omega)))⟩)⟩⟩
theorem cs_put {f : Int32} {a w : Nat → Int32} {p : Nat} (hp : p < 6) (ha : cs_C a) : ∃ a' : Nat → Int32, cs_C a' ∧ (∀ post : Int32 → SX → Prop, post (nI p) (nI p, a', w) → wX_run_48 post (nI p) f a w) ∧ (∀ post : Int32 → SY → Prop, post (nI p) (nI p, a', w) → wY_run_55 post (nI p) f a w) := by
  have hi : vp_in (nI p) 6 := vp_in_nI hp (by omega)
  have hr := ha (nI p).toNatClampNeg
  have hs := cs_sub hr
  have e3 : (-300 : Int32).toInt = -300 := by decide
  have es : (a (nI p).toNatClampNeg - 100).toInt16.toInt32 = a (nI p).toNatClampNeg - 100 := cs_s (by omega) (by omega)
  have ev : vp_nar .short (a (nI p).toNatClampNeg - 100).toInt16.toInt32 = a (nI p).toNatClampNeg - 100 := cs_vs (by omega) (by omega)
  by_cases z : (-300 : Int32) ≤ a (nI p).toNatClampNeg - 100
  · have z' := Int32.le_iff_toInt_le.mp z
    rw [e3] at z'
    refine ⟨upd a (nI p).toNatClampNeg (a (nI p).toNatClampNeg - 100), cs_Cu ha ⟨by omega, by omega⟩, fun post h => And.intro hi (nm_e (br_t z (And.intro hi (nm_e h)))), fun post h => And.intro hi (And.intro hi (nm_r (congrArg (upd a (nI p).toNatClampNeg) ev) (br_t ?_ h)))⟩
    rw [es]
    exact z
  · refine ⟨upd a (nI p).toNatClampNeg (-300), cs_Cu ha (by rw [e3]; omega), fun post h => And.intro hi (nm_e (br_f z (And.intro hi (nm_e h)))), fun post h => And.intro hi (And.intro hi (nm_r (congrArg (upd a (nI p).toNatClampNeg) ev) (br_f ?_ (And.intro hi (nm_r (e' := upd a (nI p).toNatClampNeg (-300)) ?_ h)))))⟩
    · rw [es]
      exact z
    · rw [cs_m300, cs_uu]

/-! account: one total, then the two loops in lockstep -/
theorem cs_ss {post : Int32 → SX → Prop} {f : Int32} {a w : Nat → Int32} {n s m j : Nat} (hj : j < 6) (e : w j = nI m) (h : wX_account_4 post f a w n (nI (s + m)) (nI (j + 1))) : wX_account_4 post f a w (n + 1) (nI s) (nI j) := by
  have h6 : ¬ (6 : Int32) ≤ nI j := nI_ge (b := 6) hj (by omega)
  have hi : vp_in (nI j) 6 := vp_in_nI hj (by omega)
  have e1 : nI s + w (nI j).toNatClampNeg = nI (s + m) := by rw [nI_clamp (by omega), e, nI_add]
  exact br_f h6 ⟨hi, nm_r e1 (nm_r (nI_1 j) h)⟩
theorem cs_tot {w : Nat → Int32} (hw : cs_W w) : ∃ t : Nat, 0 < t ∧ t ≤ 600 ∧ (∀ (post : Int32 → SX → Prop) (f : Int32) (a : Nat → Int32), (∃ n, wX_account_35 post (nI t) f n 0 0 a w) → wpX_account post (f, a, w)) ∧ (∀ (post : Int32 → SY → Prop) (f : Int32) (a : Nat → Int32), (∃ n, wY_account_52 post (nI t) f n 0 0 a w) → wpY_account post (f, a, w)) := by
  obtain ⟨m0, h0, e0⟩ := hw 0
  obtain ⟨m1, h1, e1⟩ := hw 1
  obtain ⟨m2, h2, e2⟩ := hw 2
  obtain ⟨m3, h3, e3⟩ := hw 3
  obtain ⟨m4, h4, e4⟩ := hw 4
  obtain ⟨m5, h5, e5⟩ := hw 5
  obtain ⟨s, hs⟩ : ∃ s : Nat, s = 0 + m0 + m1 + m2 + m3 + m4 + m5 := ⟨_, rfl⟩
  have X : ∀ (post : Int32 → SX → Prop) (f : Int32) (a : Nat → Int32), wX_account_4 post f a w 1 (nI s) (nI 6) → wpX_account post (f, a, w) := by
    intro post f a h
    rw [hs] at h
    exact ⟨7, cs_ss (s := 0) (j := 0) (by omega) e0 (cs_ss (by omega) e1 (cs_ss (by omega) e2 (cs_ss (by omega) e3 (cs_ss (by omega) e4 (cs_ss (by omega) e5 h)))))⟩
  have Y : w 0 + w 1 + w 2 + w 3 + w 4 + w 5 = nI s := by
    rw [e0, e1, e2, e3, e4, e5, nI_add, nI_add, nI_add, nI_add, nI_add]
    exact congrArg nI (by omega)
  have h6 : (6 : Int32) ≤ nI 6 := by decide
  by_cases z : s = 0
  · have z' : nI s = 0 := by rw [z]; rfl
    exact ⟨1, by omega, by omega, fun post f a h => X post f a (br_t h6 (br_t z' h)), fun post f a h => nm_r Y (br_t z' h)⟩
  · have z' : ¬ nI s = 0 := nI_ne0 (by omega) (by omega)
    exact ⟨s, by omega, by omega, fun post f a h => X post f a (br_t h6 (br_f z' h)), fun post f a h => nm_r Y (br_f z' h)⟩
theorem cs_acc {f : Int32} {w : Nat → Int32} (hw : cs_W w) {t : Nat} (h0 : 0 < t) (ht : t ≤ 600) : ∀ d j : Nat, j + d = 6 → ∀ (c : Int32) (a : Nat → Int32), cs_C a → ∃ (r : Int32) (a' : Nat → Int32), cs_C a' ∧ (∀ post : Int32 → SX → Prop, post r (f, a', w) → wX_account_35 post (nI t) f (d + 1) c (nI j) a w) ∧ (∀ post : Int32 → SY → Prop, post r (f, a', w) → wY_account_52 post (nI t) f (d + 1) c (nI j) a w) := by
  have hz : ¬ nI t = 0 := nI_ne0 h0 (by omega)
  intro d
  induction d with
  | zero =>
    intro j hj c a ha
    have h : (6 : Int32) ≤ nI j := nI_le (a := 6) (by omega) (by omega)
    exact ⟨c, a, ha, fun _ hp => br_t h hp, fun _ hp => br_t h hp⟩
  | succ d ih =>
    intro j hj c a ha
    have h : ¬ (6 : Int32) ≤ nI j := nI_ge (b := 6) (by omega) (by omega)
    have hi : vp_in (nI j) 6 := vp_in_nI (by omega) (by omega)
    obtain ⟨x, hx, H⟩ := cs_step (ha (nI j).toNatClampNeg) (hw (nI j).toNatClampNeg) h0 ht
    have ev : vp_nar .short x.toInt16.toInt32 = x := cs_vs (by omega) (by omega)
    have eu := congrArg (upd a (nI j).toNatClampNeg) ev
    by_cases z : 0 < x
    · obtain ⟨r, a', ha', fX, fY⟩ := ih (j + 1) (by omega) c (upd a (nI j).toNatClampNeg x) (cs_Cu ha hx)
      exact ⟨r, a', ha', fun post hp => br_f h ⟨hi, hi, hz, H (fun y => wX_account_75 post (wX_account_35 post (nI t) f (d + 1)) (nI t) c (nI j) y f a w) (And.intro hi (nm_e (br_t z (nm_r (nI_1 j) (fX post hp)))))⟩, fun post hp => br_f h ⟨hi, hi, hz, H (fun y => wY_account_92 post (wY_account_52 post (nI t) f (d + 1)) (nI t) c (nI j) y f a w) (And.intro hi (nm_r eu (br_t z (nm_r (nI_1 j) (fY post hp)))))⟩⟩
    · obtain ⟨r, a', ha', fX, fY⟩ := ih (j + 1) (by omega) (c + 1) (upd a (nI j).toNatClampNeg x) (cs_Cu ha hx)
      exact ⟨r, a', ha', fun post hp => br_f h ⟨hi, hi, hz, H (fun y => wX_account_75 post (wX_account_35 post (nI t) f (d + 1)) (nI t) c (nI j) y f a w) (And.intro hi (nm_e (br_f z (nm_e (nm_r (nI_1 j) (fX post hp))))))⟩, fun post hp => br_f h ⟨hi, hi, hz, H (fun y => wY_account_92 post (wY_account_52 post (nI t) f (d + 1)) (nI t) c (nI j) y f a w) (And.intro hi (nm_r eu (br_f z (nm_e (nm_r (nI_1 j) (fY post hp))))))⟩⟩
end
section
/-- both sides hold the same cursor (0 .. 5), the same credits (-300 .. 500) and the same weights (0 .. 100) -/
def i_Rel (_ : Nat) (u : SX) (v : SY) : Prop := ∃ (c : Nat) (a w : Nat → Int32), c < 6 ∧ cs_C a ∧ cs_W w ∧ u = (nI c, a, w) ∧ v = (nI c, a, w)
theorem i_up {k : Nat} {u : SX} {v : SY} (h : i_Rel k u v) : i_Rel (k + 3) u v := h
theorem i_vc0 : wpX_init (fun u => wpY_init (fun v => i_Rel 0 u v)) := ⟨0, _, _, by omega, cs_C0, cs_W0, rfl, rfl⟩
theorem i_vc_setWeight {k : Nat} {u : SX} {v : SY} (I : i_Rel k u v) (hk : k + 3 ≤ 1536) (v1 : Int32) (v2 : Int32) : wpX_setWeight (fun r u' => wpY_setWeight (fun r' v' => r' = r ∧ i_Rel (k + 3) u' v') v v1 v2) u v1 v2 := by
  have J := I
  obtain ⟨c, a, w, hc, ha, hw, rfl, rfl⟩ := I
  by_cases h0 : v1 < 0
  · exact br_t h0 (br_t h0 ⟨rfl, J⟩)
  by_cases h5 : v1 ≤ 5
  · obtain ⟨j, hj, rfl⟩ := nI_of2 (n := 5) (by decide) h0 h5
    have hi : vp_in (nI j) 6 := vp_in_nI (by omega) (by omega)
    by_cases g0 : v2 < 0
    · exact br_f h0 (br_t h5 (br_t g0 (br_f h0 (br_t h5 (br_t g0 ⟨rfl, J⟩)))))
    by_cases g1 : v2 ≤ 100
    · obtain ⟨m, hm, rfl⟩ := nI_of2 (n := 100) (by decide) g0 g1
      have eu := congrArg (upd w (nI j).toNatClampNeg) (cs_b hm)
      exact br_f h0 (br_t h5 (br_f g0 (br_t g1 ⟨hi, nm_e ⟨hi, nm_e (br_f h0 (br_t h5 (br_f g0 (br_t g1 ⟨hi, nm_e ⟨hi, nm_r eu ⟨rfl, c, a, _, hc, ha, cs_Wu hw hm, rfl, rfl⟩⟩⟩))))⟩⟩)))
    · exact br_f h0 (br_t h5 (br_f g0 (br_f g1 (br_f h0 (br_t h5 (br_f g0 (br_f g1 ⟨rfl, J⟩)))))))
  · exact br_f h0 (br_f h5 (br_f h0 (br_f h5 ⟨rfl, J⟩)))
theorem i_vc_run {k : Nat} {u : SX} {v : SY} (I : i_Rel k u v) (hk : k + 3 ≤ 1536) : wpX_run (fun r u' => wpY_run (fun r' v' => r' = r ∧ i_Rel (k + 3) u' v') v) u := by
  obtain ⟨c, a, w, hc, ha, hw, rfl, rfl⟩ := I
  obtain ⟨p, hp, fX, fY⟩ := cs_scan (a := a) (w := w) hc 6 1 rfl
  obtain ⟨a', ha', gX, gY⟩ := cs_put (f := nI c) (w := w) hp ha
  refine ⟨by decide, nm_r (cs_rem (k := 1) hc (by omega)) ⟨7, fX _ (gX _ ⟨7, fY _ (gY _ ⟨rfl, p, a', w, hp, ha', hw, rfl, rfl⟩)⟩)⟩⟩
theorem i_vc_account {k : Nat} {u : SX} {v : SY} (I : i_Rel k u v) (hk : k + 3 ≤ 1536) : wpX_account (fun r u' => wpY_account (fun r' v' => r' = r ∧ i_Rel (k + 3) u' v') v) u := by
  obtain ⟨c, a, w, hc, ha, hw, rfl, rfl⟩ := I
  obtain ⟨t, h0, ht, tX, tY⟩ := cs_tot hw
  obtain ⟨r, a', ha', fX, fY⟩ := cs_acc (f := nI c) hw h0 ht 6 0 rfl 0 a ha
  exact tX _ _ _ ⟨7, fX _ (tY _ _ _ ⟨7, fY _ ⟨rfl, c, a', w, hc, ha', hw, rfl, rfl⟩⟩)⟩
theorem i_vc_credit {k : Nat} {u : SX} {v : SY} (I : i_Rel k u v) (hk : k + 3 ≤ 1536) (v1 : Int32) : wpX_credit (fun r => wpY_credit (fun r' => r' = r ∧ i_Rel (k + 3) u v) v v1) u v1 := by
  have J := I
  obtain ⟨c, a, w, hc, ha, hw, rfl, rfl⟩ := I
  by_cases h0 : v1 < 0
  · exact br_t h0 (br_t h0 ⟨rfl, J⟩)
  by_cases h5 : v1 ≤ 5
  · obtain ⟨j, hj, rfl⟩ := nI_of2 (n := 5) (by decide) h0 h5
    have hi : vp_in (nI j) 6 := vp_in_nI (by omega) (by omega)
    exact br_f h0 (br_t h5 ⟨hi, br_f h0 (br_t h5 ⟨hi, rfl, J⟩)⟩)
  · exact br_f h0 (br_f h5 (br_f h0 (br_f h5 ⟨rfl, J⟩)))
end
