section
/-! stores and numbers: six rows of kit/rows (pk_), then this claim's own -/
theorem pk_us {f : Nat → Int32} {k : Nat} {x : Int32} : upd f k x k = x := if_pos rfl
theorem pk_un {f : Nat → Int32} {k j : Nat} {x : Int32} (h : j ≠ k) : upd f k x j = f j := if_neg h
theorem pk_m1 (n : Nat) : nI (n + 1) + (-1) = nI n := by
  rw [← nI_1, Int32.add_assoc, show (1 : Int32) + (-1) = 0 from rfl, Int32.add_zero]
theorem pk_mul (a b : Nat) : nI a * nI b = nI (a * b) := (Int32.ofNat_mul a b).symm
theorem pk_div {a d : Nat} (ha : a < 2 ^ 31) (h0 : 0 < d) (hd : d < 2 ^ 31) : nI a / nI d = nI (a / d) := by
  apply Int32.toInt_inj.mp
  rw [lg_idiv_nonneg (by rw [nI_toInt ha]; omega) (by rw [nI_toInt hd]; omega), nI_toInt ha, nI_toInt hd, nI_toInt (Nat.lt_of_le_of_lt (Nat.div_le_self a d) ha)]
  first | rfl | exact (Int.natCast_ediv _ _).symm

/-- an instruction: an addition, a multiplication, or a jump to one of the l labels -/
def ac_Ok (l : Nat) (o a : Int32) : Prop := o = 0 ∨ o = 1 ∨ ((o = 2 ∨ o = 3) ∧ ∃ q : Nat, q < l ∧ a = nI q)
/-- sizes within, one label table below l, each instruction below n well formed -/
def ac_Inv (c l n : Nat) (ops args la lb : Nat → Int32) : Prop :=
  c ≤ 12 ∧ l ≤ 4 ∧ n ≤ c ∧ (∀ j, j < l → la j = lb j) ∧ (∀ j, j < n → ac_Ok l (ops j) (args j))
/-- the two states hold the same but for label cells that are never used -/
def i_Rel (_ : Nat) (u : SX) (v : SY) : Prop :=
  ∃ (c l n : Nat) (acc : Int32) (ops args la lb : Nat → Int32),
    u = (nI c, nI l, nI n, acc, ops, args, la) ∧ v = (nI c, nI l, nI n, acc, ops, args, lb) ∧ ac_Inv c l n ops args la lb
theorem ac_rel {c l n : Nat} {acc : Int32} {ops args la lb : Nat → Int32} (H : ac_Inv c l n ops args la lb) (k : Nat) :
    i_Rel k (nI c, nI l, nI n, acc, ops, args, la) (nI c, nI l, nI n, acc, ops, args, lb) :=
  ⟨c, l, n, acc, ops, args, la, lb, rfl, rfl, H⟩
/-- one outcome for both sides -/
def ac_Out (X : (Int32 → SX → Prop) → Prop) (Y : (Int32 → SY → Prop) → Prop) : Prop :=
  ∃ (r : Int32) (u : SX) (v : SY), (∀ k, i_Rel k u v) ∧ (∀ post, post r u → X post) ∧ (∀ post, post r v → Y post)
theorem ac_out_map {X X' : (Int32 → SX → Prop) → Prop} {Y Y' : (Int32 → SY → Prop) → Prop}
    (h : ac_Out X Y) (hX : ∀ post, X post → X' post) (hY : ∀ post, Y post → Y' post) : ac_Out X' Y' := by
  obtain ⟨r, u, v, R, x, y⟩ := h
  exact ⟨r, u, v, R, fun post p => hX post (x post p), fun post p => hY post (y post p)⟩
theorem ac_cl {f : Nat → Int32} {n : Nat} (h : n < 2 ^ 31) : f (nI n).toNatClampNeg = f n := by rw [nI_clamp h]
theorem ac_up {f : Nat → Int32} {n : Nat} {x : Int32} (h : n < 2 ^ 31) : upd f (nI n).toNatClampNeg x = upd f n x := by rw [nI_clamp h]
end
section
/-! the constructors -/
def ac_clamp (M k : Int32) : Int32 := if 0 ≤ k then (if k ≤ M then k else M) else 0
theorem ac_clamp_nI (m : Nat) (M k : Int32) (hM : M.toInt = m) (hM' : M = nI m) : ∃ c : Nat, c ≤ m ∧ ac_clamp M k = nI c := by
  unfold ac_clamp
  by_cases h : (0 : Int32) ≤ k
  · rw [if_pos h]
    by_cases h4 : k ≤ M
    · rw [if_pos h4]
      exact nI_of2 hM (Int32.not_lt.mpr h) h4
    · rw [if_neg h4]
      exact ⟨m, Nat.le_refl m, hM'⟩
  · rw [if_neg h]
    exact ⟨0, Nat.zero_le m, nI_0.symm⟩
theorem ac_xloop {post : SX → Prop} {C L N A : Int32} {ops args : Nat → Int32}
    (hp : ∀ la : Nat → Int32, (∀ j, j < 4 → la j = -1) → post (C, L, 0, 0, ops, args, la)) :
    ∀ (d i : Nat) (la : Nat → Int32), i + d = 4 → (∀ j, j < i → la j = -1) →
      wX_init_78 post C L N A (d + 1) (nI i) ops args la := by
  intro d
  induction d with
  | zero =>
    intro i la hi h
    have e : i = 4 := by omega
    subst e
    exact br_t (by decide) (hp la h)
  | succ d ih =>
    intro i la hi h
    refine br_f (nI_ge (b := 4) (by omega) (by decide)) ⟨vp_in_nI (by omega) (by omega), nm_r (ac_up (by omega)) (nm_r (nI_1 i) (ih (i + 1) _ (by omega) ?_))⟩
    intro j hj
    by_cases hji : j = i
    · subst hji
      exact pk_us
    · rw [pk_un hji]
      exact h j (by omega)
theorem ac_yloop {post : SY → Prop} {C N A : Int32} {l : Nat} (hl : l ≤ 4) {ops args : Nat → Int32}
    (hp : ∀ lb : Nat → Int32, (∀ j, j < l → lb j = -1) → post (C, nI l, 0, 0, ops, args, lb)) :
    ∀ (d i : Nat) (lb : Nat → Int32), i + d = l → (∀ j, j < i → lb j = -1) →
      wY_init_82 post (nI l) C (nI l) N A (d + 1) (nI i) ops args lb := by
  intro d
  induction d with
  | zero =>
    intro i lb hi h
    have e : i = l := by omega
    subst e
    exact br_t (nI_le (Nat.le_refl i) (by omega)) (hp lb h)
  | succ d ih =>
    intro i lb hi h
    refine br_f (nI_ge (by omega) (by omega)) ⟨vp_in_nI (by omega) (by omega), nm_r (ac_up (by omega)) (nm_r (nI_1 i) (ih (i + 1) _ (by omega) ?_))⟩
    intro j hj
    by_cases hji : j = i
    · subst hji
      exact pk_us
    · rw [pk_un hji]
      exact h j (by omega)
theorem ac_x44 {post : SX → Prop} {x2 x3 C L N A : Int32} {ops args la : Nat → Int32}
    (H : wX_init_64 post x3 (ac_clamp 4 x2) C L N A ops args la) : wX_init_44 post x2 x3 C L N A ops args la := by
  by_cases h : (0 : Int32) ≤ x2
  · by_cases h4 : x2 ≤ 4
    · rw [ac_clamp, if_pos h, if_pos h4] at H
      exact br_t h (br_t h4 H)
    · rw [ac_clamp, if_pos h, if_neg h4] at H
      exact br_t h (br_f h4 H)
  · rw [ac_clamp, if_neg h] at H
    exact br_f h (br_t (by decide) H)
theorem ac_xinit {post : SX → Prop} {k0 k1 : Int32}
    (H : wX_init_44 post k1 (ac_clamp 12 k0) 0 0 0 0 (fun _ => 0) (fun _ => 0) (fun _ => 0)) : wpX_init post k0 k1 := by
  by_cases h : (0 : Int32) ≤ k0
  · by_cases h4 : k0 ≤ 12
    · rw [ac_clamp, if_pos h, if_pos h4] at H
      exact br_t h (br_t h4 H)
    · rw [ac_clamp, if_pos h, if_neg h4] at H
      exact br_t h (br_f h4 H)
  · rw [ac_clamp, if_neg h] at H
    exact br_f h (br_t (by decide) H)
theorem ac_y24 {post : SY → Prop} {x2 z0 C L N A : Int32}
    (H : wY_init_43 post z0 (ac_clamp 4 x2) C L N A) : wY_init_24 post x2 z0 C L N A := by
  by_cases h : (0 : Int32) ≤ x2
  · by_cases h4 : x2 ≤ 4
    · rw [ac_clamp, if_pos h, if_pos h4] at H
      exact br_t h (br_t h4 H)
    · rw [ac_clamp, if_pos h, if_neg h4] at H
      exact br_t h (br_f h4 H)
  · rw [ac_clamp, if_neg h] at H
    exact br_f h H
theorem ac_yinit {post : SY → Prop} {k0 k1 : Int32}
    (H : wY_init_24 post k1 (ac_clamp 12 k0) 0 0 0 0) : wpY_init post k0 k1 := by
  by_cases h : (0 : Int32) ≤ k0
  · by_cases h4 : k0 ≤ 12
    · rw [ac_clamp, if_pos h, if_pos h4] at H
      exact br_t h (br_t h4 H)
    · rw [ac_clamp, if_pos h, if_neg h4] at H
      exact br_t h (br_f h4 H)
  · rw [ac_clamp, if_neg h] at H
    exact br_f h H
theorem i_vc0 (k0 : Int32) (k1 : Int32) : wpX_init (fun u => wpY_init (fun v => i_Rel 2 u v) k0 k1) k0 k1 := by
  obtain ⟨c, hc, ec⟩ := ac_clamp_nI 12 12 k0 (by decide) (by rfl)
  obtain ⟨l, hl, el⟩ := ac_clamp_nI 4 4 k1 (by decide) (by rfl)
  apply ac_xinit
  apply ac_x44
  rw [ec, el]
  refine Exists.intro 5 (ac_xloop ?_ 4 0 _ rfl (fun j hj => absurd hj (Nat.not_lt_zero j)))
  intro la hla
  apply ac_yinit
  apply ac_y24
  rw [ec, el]
  refine Exists.intro (l + 1) (ac_yloop hl ?_ l 0 _ (Nat.zero_add l) (fun j hj => absurd hj (Nat.not_lt_zero j)))
  intro lb hlb
  exact ac_rel (n := 0) ⟨hc, hl, Nat.zero_le c, fun j hj => by rw [hla j (by omega), hlb j hj], fun j hj => absurd hj (Nat.not_lt_zero j)⟩ 2
end
section
/-! size, result, code, run -/
theorem ac_ok_jump {l : Nat} {o a : Int32} (h : ac_Ok l o a) (h0 : ¬ o = 0) (h1 : ¬ o = 1) : ∃ q : Nat, q < l ∧ a = nI q := by
  rcases h with h | h | ⟨_, h⟩
  · exact absurd h h0
  · exact absurd h h1
  · exact h
theorem ac_ok_ge2 {l : Nat} {o a : Int32} (h : ac_Ok l o a) (h2 : ¬ o < 2) : ∃ q : Nat, q < l ∧ a = nI q := by
  refine ac_ok_jump h (fun e => h2 ?_) (fun e => h2 ?_)
  · rw [e]; decide
  · rw [e]; decide
theorem i_vc_size {k : Nat} {u : SX} {v : SY} (I : i_Rel k u v) (hk : k + 3 ≤ 1538) : wpX_size (fun r => wpY_size (fun r' => r' = r ∧ i_Rel (k + 3) u v) v) u := by
  obtain ⟨c, l, n, acc, ops, args, la, lb, rfl, rfl, H⟩ := I
  exact ⟨rfl, ac_rel H _⟩
theorem i_vc_result {k : Nat} {u : SX} {v : SY} (I : i_Rel k u v) (hk : k + 3 ≤ 1538) : wpX_result (fun r => wpY_result (fun r' => r' = r ∧ i_Rel (k + 3) u v) v) u := by
  obtain ⟨c, l, n, acc, ops, args, la, lb, rfl, rfl, H⟩ := I
  exact ⟨rfl, ac_rel H _⟩
/-- code: one answer for both sides -/
theorem ac_code {c l n : Nat} {acc : Int32} {ops args la lb : Nat → Int32} (H : ac_Inv c l n ops args la lb) (i : Nat) (hi : i < 2 ^ 31) :
    ∃ r : Int32, (∀ post : Int32 → Prop, post r → wpX_code post (nI c, nI l, nI n, acc, ops, args, la) (nI i)) ∧
      (∀ post : Int32 → Prop, post r → wpY_code post (nI c, nI l, nI n, acc, ops, args, lb) (nI i)) := by
  obtain ⟨hc, hl, hn, hlab, hok⟩ := H
  have two : ¬ (2 : Int32) = 0 := by decide
  have ed : nI i / 2 = nI (i / 2) := pk_div (d := 2) hi (by decide) (by decide)
  have em : 2 * nI n = nI (2 * n) := pk_mul 2 n
  have p0 : ¬ nI i < 0 := nI_pos hi
  have p1 : (0 : Int32) ≤ nI i := nI_pos' hi
  by_cases hj : i / 2 < n
  · have hx : nI (i / 2) < nI n := nI_lt hj (by omega)
    have hy : nI i < 2 * nI n := by rw [em]; exact nI_lt (by omega) (by omega)
    have hin : vp_in (nI (i / 2)) 12 := vp_in_nI (by omega) (by omega)
    have eo : ops (nI (i / 2)).toNatClampNeg = ops (i / 2) := ac_cl (by omega)
    have ea : args (nI (i / 2)).toNatClampNeg = args (i / 2) := ac_cl (by omega)
    by_cases z : nI i - nI i / 2 * 2 = 0
    · refine ⟨ops (i / 2), fun post hp => ?_, fun post hp => ?_⟩
      · exact br_t p1 ⟨two, nm_r ed (br_t hx ⟨hin, nm_r eo ⟨two, br_t z hp⟩⟩)⟩
      · exact br_f p0 (br_t hy ⟨two, nm_r ed ⟨two, br_t z ⟨hin, by rw [eo]; exact hp⟩⟩⟩)
    · by_cases h2 : ops (i / 2) < 2
      · have h2' : ops (nI (i / 2)).toNatClampNeg < 2 := by rw [eo]; exact h2
        refine ⟨args (i / 2), fun post hp => ?_, fun post hp => ?_⟩
        · exact br_t p1 ⟨two, nm_r ed (br_t hx ⟨hin, nm_r eo ⟨two, br_f z (br_t h2 ⟨hin, by rw [ea]; exact hp⟩)⟩⟩)⟩
        · exact br_f p0 (br_t hy ⟨two, nm_r ed ⟨two, br_f z ⟨hin, br_t h2' ⟨hin, by rw [ea]; exact hp⟩⟩⟩⟩)
      · have h2' : ¬ ops (nI (i / 2)).toNatClampNeg < 2 := by rw [eo]; exact h2
        obtain ⟨q, hq, eq⟩ := ac_ok_ge2 (hok _ hj) h2
        have ea' : args (nI (i / 2)).toNatClampNeg = nI q := ea.trans eq
        have hq4 : vp_in (args (nI (i / 2)).toNatClampNeg) 4 := by rw [ea']; exact vp_in_nI (by omega) (by omega)
        have ex : la (args (nI (i / 2)).toNatClampNeg).toNatClampNeg = lb q := by
          rw [ea', nI_clamp (by omega)]; exact hlab q hq
        have ey : lb (args (nI (i / 2)).toNatClampNeg).toNatClampNeg = lb q := by
          rw [ea', nI_clamp (by omega)]
        refine ⟨lb q, fun post hp => ?_, fun post hp => ?_⟩
        · exact br_t p1 ⟨two, nm_r ed (br_t hx ⟨hin, nm_r eo ⟨two, br_f z (br_f h2 ⟨hin, hq4, by rw [ex]; exact hp⟩)⟩⟩)⟩
        · exact br_f p0 (br_t hy ⟨two, nm_r ed ⟨two, br_f z ⟨hin, br_f h2' ⟨hin, hq4, by rw [ey]; exact hp⟩⟩⟩⟩)
  · have hx : ¬ nI (i / 2) < nI n := nI_nlt (by omega) (by omega)
    have hy : ¬ nI i < 2 * nI n := by rw [em]; exact nI_nlt (by omega) (by omega)
    refine ⟨-1, fun post hp => ?_, fun post hp => ?_⟩
    · exact br_t p1 ⟨two, nm_r ed (br_f hx hp)⟩
    · exact br_f p0 (br_f hy hp)
theorem i_vc_code {k : Nat} {u : SX} {v : SY} (I : i_Rel k u v) (hk : k + 3 ≤ 1538) (v1 : Int32) : wpX_code (fun r => wpY_code (fun r' => r' = r ∧ i_Rel (k + 3) u v) v v1) u v1 := by
  obtain ⟨c, l, n, acc, ops, args, la, lb, rfl, rfl, H⟩ := I
  by_cases h0 : v1 < 0
  · exact br_f (Int32.not_le.mpr h0) (br_t h0 ⟨rfl, ac_rel H _⟩)
  · obtain ⟨i, hi, rfl⟩ := nI_of h0
    obtain ⟨r, hX, hY⟩ := ac_code (acc := acc) H i hi
    exact hX _ (hY _ ⟨rfl, ac_rel H _⟩)
/-- run: the two loops in lockstep, by the fuel that is left -/
theorem ac_run {c l n : Nat} {ops args la lb : Nat → Int32} (H : ac_Inv c l n ops args la lb) :
    ∀ (f : Nat), f ≤ 64 → ∀ (p : Nat) (acc : Int32), p < 2 ^ 31 → ac_Out
      (fun post => wX_run_25 post (nI c) (nI l) (nI n) ops args la (f + 1) (nI f) (nI p) acc)
      (fun post => wY_run_29 post (nI c) (nI l) (nI n) ops args lb (f + 1) (nI f) (nI p) acc) := by
  have H' := H
  obtain ⟨hc, hl, hn, hlab, hok⟩ := H
  intro f
  induction f with
  | zero =>
    intro _ p acc hp
    have p0 : ¬ nI p < 0 := nI_pos hp
    by_cases hpn : p < n
    · exact ⟨1, _, _, ac_rel (acc := acc) H', fun post h => br_f p0 (br_t (nI_lt hpn (by omega)) (br_f (by decide) h)),
        fun post h => br_f (nI_ge hpn (by omega)) (br_t (by decide) h)⟩
    · exact ⟨0, _, _, ac_rel (acc := acc) H', fun post h => br_f p0 (br_f (nI_nlt (by omega) hp) h),
        fun post h => br_t (nI_le (by omega) hp) h⟩
  | succ f ih =>
    intro hf p acc hp
    have p0 : ¬ nI p < 0 := nI_pos hp
    by_cases hpn : p < n
    · have hx : nI p < nI n := nI_lt hpn (by omega)
      have hy : ¬ nI n ≤ nI p := nI_ge hpn (by omega)
      have fx : (0 : Int32) < nI (f + 1) := nI_lt (a := 0) (by omega) (by omega)
      have fy : ¬ nI (f + 1) = 0 := nI_ne0 (by omega) (by omega)
      have hin : vp_in (nI p) 12 := vp_in_nI (by omega) (by omega)
      have eo : ops (nI p).toNatClampNeg = ops p := ac_cl hp
      have ea : args (nI p).toNatClampNeg = args p := ac_cl hp
      by_cases z0 : ops p = 0
      · refine ac_out_map (ih (by omega) (p + 1) (acc + args p) (by omega)) (fun post h => ?_) (fun post h => ?_)
        · exact br_f p0 (br_t hx (br_t fx (nm_r (nI_pred f) ⟨hin, nm_r eo ⟨hin, nm_r ea (br_t z0 (nm_e (nm_r (nI_1 p) h)))⟩⟩)))
        · exact br_f hy (br_f fy (nm_r (pk_m1 f) ⟨hin, nm_r eo (br_t z0 ⟨hin, nm_r (congrArg (fun t => acc + t) ea) (nm_r (nI_1 p) h)⟩)⟩))
      · by_cases z1 : ops p = 1
        · refine ac_out_map (ih (by omega) (p + 1) (acc * args p) (by omega)) (fun post h => ?_) (fun post h => ?_)
          · exact br_f p0 (br_t hx (br_t fx (nm_r (nI_pred f) ⟨hin, nm_r eo ⟨hin, nm_r ea (br_f z0 (br_t z1 (nm_e (nm_r (nI_1 p) h))))⟩⟩)))
          · exact br_f hy (br_f fy (nm_r (pk_m1 f) ⟨hin, nm_r eo (br_f z0 (br_t z1 ⟨hin, nm_r (congrArg (fun t => acc * t) ea) (nm_r (nI_1 p) h)⟩))⟩))
        · obtain ⟨q, hq, eq⟩ := ac_ok_jump (hok p hpn) z0 z1
          have ea' : args (nI p).toNatClampNeg = nI q := ea.trans eq
          have hq4 : vp_in (nI q) 4 := vp_in_nI (by omega) (by omega)
          have hq4' : vp_in (args (nI p).toNatClampNeg) 4 := by rw [ea']; exact hq4
          have ex : la (nI q).toNatClampNeg = lb q := (ac_cl (by omega)).trans (hlab q hq)
          have ey : lb (args (nI p).toNatClampNeg).toNatClampNeg = lb q := by rw [ea']; exact ac_cl (by omega)
          have J : ac_Out (fun post => wX_run_133 post (wX_run_25 post (nI c) (nI l) (nI n) ops args la (f + 1)) (nI f) (nI q) (nI c) (nI l) (nI n) acc ops args la)
              (fun post => wY_run_124 post (wY_run_29 post (nI c) (nI l) (nI n) ops args lb (f + 1)) (nI f) (nI p) (nI c) (nI l) (nI n) acc ops args lb) := by
            by_cases ha : lb q < 0
            · have ha' : ¬ (0 : Int32) ≤ lb q := Int32.not_le.mpr ha
              exact ⟨2, _, _, ac_rel (acc := acc) H', fun post h => And.intro hq4 (nm_r ex (br_f ha' h)), fun post h => And.intro hin (And.intro hq4' (nm_r ey (br_f ha' h)))⟩
            · have ha' : (0 : Int32) ≤ lb q := Int32.not_lt.mp ha
              obtain ⟨t, ht, et⟩ := nI_of ha
              refine ac_out_map (ih (by omega) t acc ht) (fun post h => ?_) (fun post h => ?_)
              · exact And.intro hq4 (nm_r (e' := nI t) (ex.trans et) (br_t (nI_pos' ht) h))
              · exact And.intro hin (And.intro hq4' (nm_r (e' := nI t) (ey.trans et) (br_t (nI_pos' ht) h)))
          by_cases z2 : ops p = 2
          · refine ac_out_map J (fun post h => ?_) (fun post h => ?_)
            · exact br_f p0 (br_t hx (br_t fx (nm_r (nI_pred f) ⟨hin, nm_r eo ⟨hin, nm_r ea' (br_f z0 (br_f z1 (br_t z2 h)))⟩⟩)))
            · exact br_f hy (br_f fy (nm_r (pk_m1 f) ⟨hin, nm_r eo (br_f z0 (br_f z1 (br_t z2 h)))⟩))
          · by_cases za : acc = 0
            · refine ac_out_map J (fun post h => ?_) (fun post h => ?_)
              · exact br_f p0 (br_t hx (br_t fx (nm_r (nI_pred f) ⟨hin, nm_r eo ⟨hin, nm_r ea' (br_f z0 (br_f z1 (br_f z2 (br_t za h))))⟩⟩)))
              · exact br_f hy (br_f fy (nm_r (pk_m1 f) ⟨hin, nm_r eo (br_f z0 (br_f z1 (br_f z2 (br_t za h))))⟩))
            · refine ac_out_map (ih (by omega) (p + 1) acc (by omega)) (fun post h => ?_) (fun post h => ?_)
              · exact br_f p0 (br_t hx (br_t fx (nm_r (nI_pred f) ⟨hin, nm_r eo ⟨hin, nm_r ea' (br_f z0 (br_f z1 (br_f z2 (br_f za (nm_r (nI_1 p) h)))))⟩⟩)))
              · exact br_f hy (br_f fy (nm_r (pk_m1 f) ⟨hin, nm_r eo (br_f z0 (br_f z1 (br_f z2 (br_f za (nm_r (nI_1 p) h)))))⟩))
    · exact ⟨0, _, _, ac_rel (acc := acc) H', fun post h => br_f p0 (br_f (nI_nlt (by omega) hp) h),
        fun post h => br_t (nI_le (by omega) hp) h⟩
theorem i_vc_run {k : Nat} {u : SX} {v : SY} (I : i_Rel k u v) (hk : k + 3 ≤ 1538) (v1 : Int32) (v2 : Int32) : wpX_run (fun r u' => wpY_run (fun r' v' => r' = r ∧ i_Rel (k + 3) u' v') v v1 v2) u v1 v2 := by
  obtain ⟨c, l, n, acc, ops, args, la, lb, rfl, rfl, H⟩ := I
  by_cases h0 : (0 : Int32) ≤ v2
  · by_cases h64 : v2 ≤ 64
    · obtain ⟨f, hf, rfl⟩ := nI_of2 (M := 64) (n := 64) (by decide) (Int32.not_lt.mpr h0) h64
      obtain ⟨r, u', v', R, hX, hY⟩ := ac_run H f hf 0 v1 (by decide)
      exact br_t h0 (br_t h64 ⟨f + 1, hX _ (br_t h0 (br_t h64 ⟨f + 1, hY _ ⟨rfl, R _⟩⟩))⟩)
    · obtain ⟨r, u', v', R, hX, hY⟩ := ac_run H 64 (Nat.le_refl _) 0 v1 (by decide)
      exact br_t h0 (br_f h64 ⟨64 + 1, hX _ (br_t h0 (br_f h64 ⟨64 + 1, hY _ ⟨rfl, R _⟩⟩))⟩)
  · obtain ⟨r, u', v', R, hX, hY⟩ := ac_run H 0 (by decide) 0 v1 (by decide)
    exact br_f h0 (br_t (by decide) ⟨0 + 1, hX _ (br_f h0 ⟨0 + 1, hY _ ⟨rfl, R _⟩⟩)⟩)
end
section
/-! feed -/
section
variable {c l n : Nat} {acc : Int32} {ops args la lb : Nat → Int32}
/-- a new instruction at the end, or no room -/
theorem ac_push (H : ac_Inv c l n ops args la lb) {t v : Int32} (hok : ac_Ok l t v) : ac_Out
    (fun post => wX_feed_297 post t v (nI c) (nI l) (nI n) acc ops args la)
    (fun post => wY_feed_249 post t v (nI c) (nI l) (nI n) acc ops args lb) := by
  have H' := H
  obtain ⟨hc, hl, hn, hlab, hall⟩ := H
  by_cases e : n = c
  · subst e
    exact ⟨1, _, _, ac_rel (acc := acc) H', fun post h => br_t rfl h, fun post h => br_f (nI_nlt (Nat.le_refl n) (by omega)) h⟩
  · have hx : ¬ nI n = nI c := fun h => e ((nI_eq (by omega) (by omega)).mp h)
    have hy : nI n < nI c := nI_lt (by omega) (by omega)
    have hin : vp_in (nI n) 12 := vp_in_nI (by omega) (by omega)
    have hn31 : n < 2 ^ 31 := by omega
    have I : ac_Inv c l (n + 1) (upd ops n t) (upd args n v) la lb := by
      refine ⟨hc, hl, by omega, hlab, fun j hj => ?_⟩
      by_cases ej : j = n
      · subst ej
        rw [pk_us, pk_us]
        exact hok
      · rw [pk_un ej, pk_un ej]
        exact hall j (by omega)
    exact ⟨0, _, _, ac_rel (acc := acc) I,
      fun post h => br_f hx ⟨hin, nm_r (ac_up hn31) ⟨hin, nm_r (ac_up hn31) (nm_r (nI_1 n) h)⟩⟩,
      fun post h => br_t hy ⟨hin, nm_r (ac_up hn31) ⟨hin, nm_r (ac_up hn31) (nm_r (nI_1 n) h)⟩⟩⟩
/-- X's scan for a label here: its flag at the end is 0 just if it was and no label stands here -/
theorem ac_xscan {post : Int32 → SX → Prop} {t v : Int32} {m : Nat} (hl : l ≤ 4) :
    ∀ (d i : Nat) (x5 : Int32), i + d = l →
      (∀ b : Int32, (b = 0 ↔ (x5 = 0 ∧ ∀ j, i ≤ j → j < l → la j ≠ nI n)) → wX_feed_172 post t v (nI c) (nI l) (nI n) acc ops args la (m + 1) b (nI l)) →
      wX_feed_172 post t v (nI c) (nI l) (nI n) acc ops args la (m + d + 1) x5 (nI i) := by
  intro d
  induction d with
  | zero =>
    intro i x5 hi K
    have e : i = l := by omega
    subst e
    exact K x5 ⟨fun h => ⟨h, fun j h1 h2 => absurd h2 (by omega)⟩, fun h => h.1⟩
  | succ d ih =>
    intro i x5 hi K
    have h4 : vp_in (nI i) 4 := vp_in_nI (by omega) (by omega)
    have el : la (nI i).toNatClampNeg = la i := ac_cl (by omega)
    have hge : ¬ nI l ≤ nI i := nI_ge (by omega) (by omega)
    by_cases z : la i = nI n
    · have z' : la (nI i).toNatClampNeg = nI n := el.trans z
      refine br_f hge ⟨h4, br_t z' (nm_r (nI_1 i) (ih (i + 1) 1 (by omega) fun b hb => K b ?_))⟩
      refine hb.trans ⟨fun h => absurd h.1 (by decide), fun h => absurd z (h.2 i (Nat.le_refl i) (by omega))⟩
    · have z' : ¬ la (nI i).toNatClampNeg = nI n := fun h => z (el.symm.trans h)
      refine br_f hge ⟨h4, br_f z' (nm_r (nI_1 i) (ih (i + 1) x5 (by omega) fun b hb => K b ?_))⟩
      refine hb.trans ⟨fun h => ⟨h.1, fun j h1 h2 => ?_⟩, fun h => ⟨h.1, fun j h1 h2 => h.2 j (by omega) h2⟩⟩
      by_cases ej : j = i
      · rw [ej]; exact z
      · exact h.2 j (by omega) h2
/-- Y's scan -/
theorem ac_yscan {post : Int32 → Prop} {x C N A : Int32} (hl : l ≤ 4) :
    ∀ (d i : Nat), i + d = l →
      (∀ b : Int32, (b = 0 ↔ ∀ j, i ≤ j → j < l → lb j ≠ x) → post b) →
      wY_labelAt_2 post x C (nI l) N A ops args lb (d + 1) (nI i) := by
  intro d
  induction d with
  | zero =>
    intro i hi K
    have e : i = l := by omega
    subst e
    exact br_t (nI_le (Nat.le_refl i) (by omega)) (K 0 ⟨fun _ j h1 h2 => absurd h2 (by omega), fun _ => rfl⟩)
  | succ d ih =>
    intro i hi K
    have h4 : vp_in (nI i) 4 := vp_in_nI (by omega) (by omega)
    have el : lb (nI i).toNatClampNeg = lb i := ac_cl (by omega)
    have hge : ¬ nI l ≤ nI i := nI_ge (by omega) (by omega)
    by_cases z : lb i = x
    · have z' : lb (nI i).toNatClampNeg = x := el.trans z
      exact br_f hge ⟨h4, br_t z' (K 1 ⟨fun h => absurd h (by decide), fun h => absurd z (h i (Nat.le_refl i) (by omega))⟩)⟩
    · have z' : ¬ lb (nI i).toNatClampNeg = x := fun h => z (el.symm.trans h)
      refine br_f hge ⟨h4, br_f z' (nm_r (nI_1 i) (ih (i + 1) (by omega) fun b hb => K b ?_))⟩
      refine hb.trans ⟨fun h j h1 h2 => ?_, fun h j h1 h2 => h j (by omega) h2⟩
      by_cases ej : j = i
      · rw [ej]; exact z
      · exact h j (by omega) h2
end
section
variable {c l m : Nat} {acc : Int32} {ops args la lb : Nat → Int32}
/-- the last instruction goes, or takes the folded operand -/
theorem ac_fold (H : ac_Inv c l (m + 1) ops args la lb) {t w : Int32} (ht : t = 0 ∨ t = 1) (ho : ops m = t) : ac_Out
    (fun post => wX_feed_261 post t w (nI c) (nI l) (nI (m + 1)) acc ops args la)
    (fun post => wY_feed_199 post t w (nI c) (nI l) (nI (m + 1)) acc ops args lb) := by
  obtain ⟨hc, hl, hn, hlab, hall⟩ := H
  have ep : nI (m + 1) - 1 = nI m := nI_pred m
  have hin : vp_in (nI (m + 1) - 1) 12 := by rw [ep]; exact vp_in_nI (by omega) (by omega)
  have eu : upd args (nI (m + 1) - 1).toNatClampNeg w = upd args m w := by rw [ep, nI_clamp (by omega)]
  by_cases e : w = t
  · have I : ac_Inv c l m ops args la lb := ⟨hc, hl, by omega, hlab, fun j hj => hall j (by omega)⟩
    refine ⟨0, _, _, ac_rel (acc := acc) I, fun post h => br_t e (nm_r ep h), fun post h => ?_⟩
    rcases ht with ht | ht
    · exact br_t ht (br_t (e.trans ht) (nm_r ep h))
    · have h0 : ¬ t = 0 := by rw [ht]; decide
      exact br_f h0 (br_t ht (br_t (e.trans ht) (nm_r ep h)))
  · have I : ac_Inv c l (m + 1) ops (upd args m w) la lb := by
      refine ⟨hc, hl, hn, hlab, fun j hj => ?_⟩
      by_cases ej : j = m
      · rw [ej, ho]
        rcases ht with ht | ht
        · exact Or.inl ht
        · exact Or.inr (Or.inl ht)
      · rw [pk_un ej]
        exact hall j hj
    refine ⟨0, _, _, ac_rel (acc := acc) I, fun post h => br_f e ⟨hin, nm_r eu h⟩, fun post h => ?_⟩
    have h234 : wY_feed_234 post w (nI c) (nI l) (nI (m + 1)) acc ops args lb := And.intro hin (nm_r eu h)
    rcases ht with ht | ht
    · have h1 : ¬ t = 1 := by rw [ht]; decide
      exact br_t ht (br_f (fun z => e (z.trans ht.symm)) (br_f h1 h234))
    · have h0 : ¬ t = 0 := by rw [ht]; decide
      exact br_f h0 (br_t ht (br_f (fun z => e (z.trans ht.symm)) h234))
end
section
variable {c l n : Nat} {acc : Int32} {ops args la lb : Nat → Int32}
/-- an addition or a multiplication that isn't a unit -/
theorem ac_arith (H : ac_Inv c l n ops args la lb) {t v : Int32} (ht : t = 0 ∨ t = 1) : ac_Out
    (fun post => ∃ n172 : Nat, wX_feed_172 post t v (nI c) (nI l) (nI n) acc ops args la n172 0 0)
    (fun post => wY_feed_131 post t v (nI c) (nI l) (nI n) acc ops args lb) := by
  have H' := H
  obtain ⟨hc, hl, hn, hlab, hall⟩ := H
  have hok : ac_Ok l t v := by
    rcases ht with ht | ht
    · exact Or.inl ht
    · exact Or.inr (Or.inl ht)
  have hll : nI l ≤ nI l := nI_le (Nat.le_refl l) (by omega)
  have P := ac_push (acc := acc) H' hok
  cases n with
  | zero =>
    refine ac_out_map P (fun post h => ⟨0 + l + 1, ?_⟩) (fun post h => br_t (by decide) h)
    refine ac_xscan (m := 0) hl l 0 0 (Nat.zero_add l) fun b hb => ?_
    exact br_t hll (br_t (by decide) h)
  | succ m =>
    have n0 : ¬ nI (m + 1) ≤ 0 := nI_nle (by omega) (by omega)
    have ep : nI (m + 1) - 1 = nI m := nI_pred m
    have hin : vp_in (nI (m + 1) - 1) 12 := by rw [ep]; exact vp_in_nI (by omega) (by omega)
    have eo : ops (nI (m + 1) - 1).toNatClampNeg = ops m := by rw [ep]; exact ac_cl (by omega)
    have ea : args (nI (m + 1) - 1).toNatClampNeg = args m := by rw [ep]; exact ac_cl (by omega)
    by_cases z : ops m = t
    · have z' : ops (nI (m + 1) - 1).toNatClampNeg = t := eo.trans z
      by_cases Q : ∀ j, 0 ≤ j → j < l → lb j ≠ nI (m + 1)
      · have QX : ∀ j, 0 ≤ j → j < l → la j ≠ nI (m + 1) := fun j h1 h2 => by rw [hlab j h2]; exact Q j h1 h2
        by_cases t0 : t = 0
        · refine ac_out_map (ac_fold (acc := acc) (w := args m + v) H' ht z) (fun post h => ⟨0 + l + 1, ?_⟩) (fun post h => ?_)
          · refine ac_xscan (m := 0) hl l 0 0 (Nat.zero_add l) fun b hb => ?_
            have b0 : b = 0 := hb.mpr ⟨rfl, QX⟩
            exact br_t hll (br_f n0 ⟨hin, br_t z' (br_t b0 ⟨hin, nm_r ea (br_t t0 h)⟩)⟩)
          · refine br_f n0 ⟨hin, br_t z' (Exists.intro (l + 1) (ac_yscan hl l 0 (Nat.zero_add l) fun b hb => ?_))⟩
            have b0 : b = 0 := hb.mpr Q
            exact br_t b0 (br_t t0 ⟨hin, by rw [ea]; exact h⟩)
        · refine ac_out_map (ac_fold (acc := acc) (w := args m * v) H' ht z) (fun post h => ⟨0 + l + 1, ?_⟩) (fun post h => ?_)
          · refine ac_xscan (m := 0) hl l 0 0 (Nat.zero_add l) fun b hb => ?_
            have b0 : b = 0 := hb.mpr ⟨rfl, QX⟩
            exact br_t hll (br_f n0 ⟨hin, br_t z' (br_t b0 ⟨hin, nm_r ea (br_f t0 h)⟩)⟩)
          · refine br_f n0 ⟨hin, br_t z' (Exists.intro (l + 1) (ac_yscan hl l 0 (Nat.zero_add l) fun b hb => ?_))⟩
            have b0 : b = 0 := hb.mpr Q
            exact br_t b0 (br_f t0 ⟨hin, by rw [ea]; exact h⟩)
      · have QX : ¬ ∀ j, 0 ≤ j → j < l → la j ≠ nI (m + 1) := fun q => Q fun j h1 h2 => by rw [← hlab j h2]; exact q j h1 h2
        refine ac_out_map P (fun post h => ⟨0 + l + 1, ?_⟩) (fun post h => ?_)
        · refine ac_xscan (m := 0) hl l 0 0 (Nat.zero_add l) fun b hb => ?_
          have b0 : ¬ b = 0 := fun q => QX (hb.mp q).2
          exact br_t hll (br_f n0 ⟨hin, br_t z' (br_f b0 h)⟩)
        · refine br_f n0 ⟨hin, br_t z' (Exists.intro (l + 1) (ac_yscan hl l 0 (Nat.zero_add l) fun b hb => ?_))⟩
          have b0 : ¬ b = 0 := fun q => Q (hb.mp q)
          exact br_f b0 h
    · have z' : ¬ ops (nI (m + 1) - 1).toNatClampNeg = t := fun q => z (eo.symm.trans q)
      refine ac_out_map P (fun post h => ⟨0 + l + 1, ?_⟩) (fun post h => br_f n0 ⟨hin, br_f z' h⟩)
      refine ac_xscan (m := 0) hl l 0 0 (Nat.zero_add l) fun b hb => ?_
      exact br_t hll (br_f n0 ⟨hin, br_f z' h⟩)
/-- an addition or a multiplication -/
theorem ac_arith2 (H : ac_Inv c l n ops args la lb) {op t v : Int32} (ht : t = 0 ∨ t = 1) (h4 : ¬ 4 ≤ op) : ac_Out
    (fun post => wX_feed_158 post t v (nI c) (nI l) (nI n) acc ops args la)
    (fun post => wY_feed_102 post op t v (nI c) (nI l) (nI n) acc ops args lb) := by
  by_cases e : v = t
  · refine ⟨0, _, _, ac_rel (acc := acc) H, fun post h => br_t e h, fun post h => ?_⟩
    rcases ht with ht | ht
    · exact br_f h4 (br_t ht (br_t (e.trans ht) h))
    · have h0 : ¬ t = 0 := by rw [ht]; decide
      exact br_f h4 (br_f h0 (br_t ht (br_t (e.trans ht) h)))
  · refine ac_out_map (ac_arith (acc := acc) (v := v) H ht) (fun post h => br_f e h) (fun post h => ?_)
    rcases ht with ht | ht
    · have h1 : ¬ t = 1 := by rw [ht]; decide
      exact br_f h4 (br_t ht (br_f (fun z => e (z.trans ht.symm)) (br_f h1 h)))
    · have h0 : ¬ t = 0 := by rw [ht]; decide
      exact br_f h4 (br_f h0 (br_t ht (br_f (fun z => e (z.trans ht.symm)) h)))
end
theorem ac_ops7 (x : Int32) : x < 0 ∨ ¬ x ≤ 6 ∨ x = 0 ∨ x = 1 ∨ x = 2 ∨ x = 3 ∨ x = 4 ∨ x = 5 ∨ x = 6 := by
  by_cases h0 : x < 0
  · exact Or.inl h0
  · by_cases h6 : x ≤ 6
    · obtain ⟨j, hj, rfl⟩ := nI_of2 (M := 6) (n := 6) (by decide) h0 h6
      have hj' : j = 0 ∨ j = 1 ∨ j = 2 ∨ j = 3 ∨ j = 4 ∨ j = 5 ∨ j = 6 := by omega
      rcases hj' with rfl | rfl | rfl | rfl | rfl | rfl | rfl <;> decide
    · exact Or.inr (Or.inl h6)
end
section
/-! feed, joined; the rest -/
theorem i_up {k : Nat} {u : SX} {v : SY} (h : i_Rel k u v) : i_Rel (k + 3) u v := h
section
variable {c l n : Nat} {acc : Int32} {ops args la lb : Nat → Int32}
theorem ac_feed_no (H : ac_Inv c l n ops args la lb) {r : Int32} {X : (Int32 → SX → Prop) → Prop} {Y : (Int32 → SY → Prop) → Prop}
    (hX : ∀ post : Int32 → SX → Prop, post r (nI c, nI l, nI n, acc, ops, args, la) → X post)
    (hY : ∀ post : Int32 → SY → Prop, post r (nI c, nI l, nI n, acc, ops, args, lb) → Y post) : ac_Out X Y :=
  ⟨r, _, _, ac_rel (acc := acc) H, hX, hY⟩
theorem ac_feed (H : ac_Inv c l n ops args la lb) (op k : Int32) : ac_Out
    (fun post => wpX_feed post (nI c, nI l, nI n, acc, ops, args, la) op k)
    (fun post => wpY_feed post (nI c, nI l, nI n, acc, ops, args, lb) op k) := by
  have H' := H
  obtain ⟨hc, hl, hn, hlab, hall⟩ := H
  by_cases h0 : op < 0
  · exact ac_feed_no H' (fun post h => br_t h0 h) (fun post h => br_t h0 h)
  by_cases h6 : op ≤ 6
  case neg => exact ac_feed_no H' (fun post h => br_f h0 (br_f h6 h)) (fun post h => br_f h0 (br_f h6 h))
  by_cases h4 : op < 4
  · have h4' : ¬ 4 ≤ op := Int32.not_le.mpr h4
    have hop : op = 0 ∨ op = 1 ∨ op = 2 ∨ op = 3 := by
      rcases ac_ops7 op with h | h | h | h | h | h | h | h | h
      · exact absurd h h0
      · exact absurd h6 h
      · exact Or.inl h
      · exact Or.inr (Or.inl h)
      · exact Or.inr (Or.inr (Or.inl h))
      · exact Or.inr (Or.inr (Or.inr h))
      · rw [h] at h4; exact absurd h4 (by decide)
      · rw [h] at h4; exact absurd h4 (by decide)
      · rw [h] at h4; exact absurd h4 (by decide)
    rcases hop with rfl | rfl | rfl | rfl
    · exact ac_out_map (ac_arith2 (acc := acc) (op := 0) (t := 0) (v := k) H' (Or.inl rfl) h4')
        (fun post h => br_f h0 (br_t h6 (br_t h4 (br_t rfl h))))
        (fun post h => br_f h0 (br_t h6 (br_t h4 (br_f (by decide) (br_t h4 (br_f (by decide) (br_f (by decide) (br_f (by decide) h))))))))
    · exact ac_out_map (ac_arith2 (acc := acc) (op := 1) (t := 0) (v := -k) H' (Or.inl rfl) h4')
        (fun post h => br_f h0 (br_t h6 (br_t h4 (br_f (by decide) (br_t rfl (nm_e h))))))
        (fun post h => br_f h0 (br_t h6 (br_t h4 (br_f (by decide) (br_t h4 (br_f (by decide) (br_t rfl h)))))))
    · exact ac_out_map (ac_arith2 (acc := acc) (op := 2) (t := 1) (v := k) H' (Or.inr rfl) h4')
        (fun post h => br_f h0 (br_t h6 (br_t h4 (br_f (by decide) (br_f (by decide) (br_t rfl h))))))
        (fun post h => br_f h0 (br_t h6 (br_t h4 (br_f (by decide) (br_t h4 (br_t (by decide) (br_f (by decide) (br_f (by decide) h))))))))
    · exact ac_out_map (ac_arith2 (acc := acc) (op := 3) (t := 1) (v := -1) H' (Or.inr rfl) h4')
        (fun post h => br_f h0 (br_t h6 (br_t h4 (br_f (by decide) (br_f (by decide) (br_f (by decide) h))))))
        (fun post h => br_f h0 (br_t h6 (br_t h4 (br_f (by decide) (br_t h4 (br_t (by decide) (br_f (by decide) (br_t rfl h))))))))
  · by_cases k0 : k < 0
    · exact ac_feed_no H' (fun post h => br_f h0 (br_t h6 (br_f h4 (br_t k0 h)))) (fun post h => br_f h0 (br_t h6 (br_f h4 (br_t k0 h))))
    by_cases kl : k < nI l
    case neg => exact ac_feed_no H' (fun post h => br_f h0 (br_t h6 (br_f h4 (br_f k0 (br_f kl h))))) (fun post h => br_f h0 (br_t h6 (br_f h4 (br_f k0 (br_f kl h)))))
    obtain ⟨q, hq31, rfl⟩ := nI_of k0
    have hq : q < l := (nI_ltI hq31 (by omega)).mp kl
    have hq4 : vp_in (nI q) 4 := vp_in_nI (by omega) (by omega)
    have hop : op = 4 ∨ op = 5 ∨ op = 6 := by
      rcases ac_ops7 op with h | h | h | h | h | h | h | h | h
      · exact absurd h h0
      · exact absurd h6 h
      · rw [h] at h4; exact absurd (by decide) h4
      · rw [h] at h4; exact absurd (by decide) h4
      · rw [h] at h4; exact absurd (by decide) h4
      · rw [h] at h4; exact absurd (by decide) h4
      · exact Or.inl h
      · exact Or.inr (Or.inl h)
      · exact Or.inr (Or.inr h)
    rcases hop with rfl | rfl | rfl
    · have e2 : (4 : Int32) - 2 = 2 := by decide
      refine ac_out_map (ac_push (acc := acc) (t := 2) (v := nI q) H' (Or.inr (Or.inr ⟨Or.inl rfl, q, hq, rfl⟩))) (fun post h => ?_) (fun post h => ?_)
      · exact br_f h0 (br_t h6 (br_f h4 (br_f k0 (br_t kl (br_f (by decide) (And.intro h.1 (fun hn => br_t rfl (h.2 hn))))))))
      · refine br_f h0 (br_t h6 (br_f h4 (br_f k0 (br_t kl (br_f (by decide) (br_f h4 (br_f (by decide) (br_f (by decide) (br_t (by decide) ?_)))))))))
        rw [e2]
        exact h
    · have e2 : (5 : Int32) - 2 = 3 := by decide
      refine ac_out_map (ac_push (acc := acc) (t := 3) (v := nI q) H' (Or.inr (Or.inr ⟨Or.inr rfl, q, hq, rfl⟩))) (fun post h => ?_) (fun post h => ?_)
      · exact br_f h0 (br_t h6 (br_f h4 (br_f k0 (br_t kl (br_f (by decide) (And.intro h.1 (fun hn => br_f (by decide) (h.2 hn))))))))
      · refine br_f h0 (br_t h6 (br_f h4 (br_f k0 (br_t kl (br_f (by decide) (br_f h4 (br_f (by decide) (br_f (by decide) (br_t (by decide) ?_)))))))))
        rw [e2]
        exact h
    · have ex : la (nI q).toNatClampNeg = lb q := (ac_cl hq31).trans (hlab q hq)
      have ey : lb (nI q).toNatClampNeg = lb q := ac_cl hq31
      by_cases z : lb q < 0
      · have zx : la (nI q).toNatClampNeg < 0 := by rw [ex]; exact z
        have zy : lb (nI q).toNatClampNeg < 0 := by rw [ey]; exact z
        have I : ac_Inv c l n ops args (upd la q (nI n)) (upd lb q (nI n)) := by
          refine ⟨hc, hl, hn, fun j hj => ?_, hall⟩
          by_cases ej : j = q
          · rw [ej, pk_us, pk_us]
          · rw [pk_un ej, pk_un ej]
            exact hlab j hj
        exact ⟨0, _, _, ac_rel (acc := acc) I,
          fun post h => br_f h0 (br_t h6 (br_f h4 (br_f k0 (br_t kl (br_t rfl ⟨hq4, br_t zx ⟨hq4, nm_r (ac_up hq31) h⟩⟩))))),
          fun post h => br_f h0 (br_t h6 (br_f h4 (br_f k0 (br_t kl (br_t rfl ⟨hq4, br_t zy ⟨hq4, nm_r (ac_up hq31) h⟩⟩)))))⟩
      · have zx : ¬ la (nI q).toNatClampNeg < 0 := by rw [ex]; exact z
        have zy : ¬ lb (nI q).toNatClampNeg < 0 := by rw [ey]; exact z
        exact ac_feed_no H'
          (fun post h => br_f h0 (br_t h6 (br_f h4 (br_f k0 (br_t kl (br_t rfl ⟨hq4, br_f zx h⟩))))))
          (fun post h => br_f h0 (br_t h6 (br_f h4 (br_f k0 (br_t kl (br_t rfl ⟨hq4, br_f zy h⟩))))))
end
theorem i_vc_feed {k : Nat} {u : SX} {v : SY} (I : i_Rel k u v) (hk : k + 3 ≤ 1538) (v1 : Int32) (v2 : Int32) : wpX_feed (fun r u' => wpY_feed (fun r' v' => r' = r ∧ i_Rel (k + 3) u' v') v v1 v2) u v1 v2 := by
  obtain ⟨c, l, n, acc, ops, args, la, lb, rfl, rfl, H⟩ := I
  obtain ⟨r, u', v', R, hX, hY⟩ := ac_feed (acc := acc) H v1 v2
  exact hX _ (hY _ ⟨rfl, R _⟩)
end
