section
theorem pk_us {f : Nat → Int32} {k : Nat} {x : Int32} : upd f k x k = x := if_pos rfl
theorem pk_un {f : Nat → Int32} {k j : Nat} {x : Int32} (h : j ≠ k) : upd f k x j = f j := if_neg h
theorem pk_sub {a b : Nat} (h : b ≤ a) : nI a - nI b = nI (a - b) := by
  obtain ⟨c, rfl⟩ : ∃ c, a = c + b := ⟨a - b, by omega⟩
  rw [← nI_add, Int32.add_sub_cancel, Nat.add_sub_cancel]
theorem pk_mul (a b : Nat) : nI a * nI b = nI (a * b) := (Int32.ofNat_mul a b).symm
theorem pk_div {a d : Nat} (ha : a < 2 ^ 31) (h0 : 0 < d) (hd : d < 2 ^ 31) : nI a / nI d = nI (a / d) := by
  apply Int32.toInt_inj.mp
  rw [lg_idiv_nonneg (by rw [nI_toInt ha]; omega) (by rw [nI_toInt hd]; omega), nI_toInt ha, nI_toInt hd, nI_toInt (Nat.lt_of_le_of_lt (Nat.div_le_self a d) ha)]
  first | rfl | exact (Int.natCast_ediv _ _).symm
theorem pk_rem {a d : Nat} (ha : a < 2 ^ 31) (h0 : 0 < d) (hd : d < 2 ^ 31) : nI a - nI a / nI d * nI d = nI (a % d) := by
  rw [pk_div ha h0 hd, pk_mul, pk_sub (Nat.div_mul_le_self a d)]
  exact congrArg nI (by have := Nat.div_add_mod' a d; omega)
theorem pk_tn {n : Nat} (h : n < 2 ^ 32) : (nI n).toBitVec.toNat = n := Nat.mod_eq_of_lt h
theorem pk_charN {q : Nat} (hq : q < 65536) : narrow .char (.int (nI q)) = .int (nI q) ∧ fits .char (.int (nI q)) = true := by
  constructor
  · have e : (nI q).toUInt32.toUInt16.toUInt32.toInt32 = nI q := by
      apply Int32.toBitVec_inj.mp
      apply BitVec.eq_of_toNat_eq
      show (nI q).toUInt32.toUInt16.toUInt32.toNat = q % 2 ^ 32
      rw [UInt16.toNat_toUInt32, UInt32.toNat_toUInt16, show (nI q).toUInt32.toNat = q % 2 ^ 32 from rfl]
      omega
    exact congrArg Value.int e
  · have a : (0 : Int32) ≤ nI q := nI_pos' (by omega)
    have b : nI q ≤ 65535 := nI_le (b := 65535) (by omega) (by decide)
    show (decide ((0 : Int32) ≤ nI q) && decide (nI q ≤ 65535)) = true
    rw [decide_eq_true a, decide_eq_true b]
    rfl
theorem pk_char (x : Int32) : (x.toUInt32 % 65536).toInt32 = nI (x.toBitVec.toNat % 65536) := by
  apply Int32.toBitVec_inj.mp
  apply BitVec.eq_of_toNat_eq
  rw [pk_tn (by omega)]
  show (x.toUInt32 % 65536).toNat = _
  rw [UInt32.toNat_mod]
  rfl
theorem pk_nc (x : Int32) : narrow .char (.int (x.toUInt32 % 65536).toInt32) = .int (x.toUInt32 % 65536).toInt32 := by
  rw [pk_char]
  exact (pk_charN (Nat.mod_lt _ (by decide))).1
theorem pk_vs (z : Int32) : vp_nar .short z.toInt16.toInt32 = z.toInt16.toInt32 := by rw [vp_nar_short]; simp
theorem pk_vc (z : Int32) : vp_nar .char (z.toUInt32 % 65536).toInt32 = (z.toUInt32 % 65536).toInt32 := Value.int.inj (pk_nc z)
end
section
/-- a cast to char of a small natural, stored into a char array, is the natural itself -/
theorem og_ca {n : Nat} (h : n < 65536) : ((nI n).toUInt32 % 65536).toInt32 = nI n := by
  rw [pk_char, pk_tn (by omega), Nat.mod_eq_of_lt h]
theorem og_ch {n : Nat} (h : n < 65536) : vp_nar .char ((nI n).toUInt32 % 65536).toInt32 = nI n := by
  rw [pk_vc, og_ca h]
theorem og_sa {n : Nat} (h : n < 32768) : (nI n).toInt16.toInt32 = nI n :=
  lg_i2s_small (by rw [nI_toInt (by omega)]; omega) (by rw [nI_toInt (by omega)]; omega)
theorem og_sh {n : Nat} (h : n < 32768) : vp_nar .short (nI n).toInt16.toInt32 = nI n := by
  rw [pk_vs, og_sa h]
theorem og_c4 : vp_nar .char 4 = nI 4 := Value.int.inj (pk_charN (q := 4) (by decide)).1
theorem og_s0 : vp_nar .short 0 = nI 0 := by
  rw [vp_nar_short]; decide
/-- the group that is k places behind p -/
theorem og_g (p k : Nat) (hp : p < 4) (hk : k < 4) : (nI p + nI k) - (nI p + nI k) / 4 * 4 = nI ((p + k) % 4) := by
  rw [nI_add]
  exact pk_rem (d := 4) (by omega) (by decide) (by decide)
/-- one group: free inodes and directories are four together, the free blocks at most c -/
def og_G (c : Nat) (x y z : Int32) : Prop := ∃ f b d : Nat, x = nI f ∧ y = nI b ∧ z = nI d ∧ f + d = 4 ∧ b ≤ c
def og_I (cp : Int32) (fi fb nd : Nat → Int32) : Prop := ∃ c : Nat, cp = nI c ∧ c ≤ 60000 ∧ ∀ j, j < 4 → og_G c (fi j) (fb j) (nd j)
theorem og_upd {c : Nat} {fi fb nd : Nat → Int32} {g : Nat} {x y z : Int32} (hc : c ≤ 60000) (h : ∀ j, j < 4 → og_G c (fi j) (fb j) (nd j)) (hg : og_G c x y z) : og_I (nI c) (upd fi g x) (upd fb g y) (upd nd g z) := by
  refine ⟨c, rfl, hc, fun j hj => ?_⟩
  by_cases e : j = g
  · subst e
    rw [pk_us, pk_us, pk_us]; exact hg
  · rw [pk_un e, pk_un e, pk_un e]; exact h j hj
theorem og_z {cp : Int32} {fi fb nd : Nat → Int32} (h : og_I cp fi fb nd) {j : Nat} (hj : j < 4) : fi j ≤ 0 ↔ fi j = 0 := by
  obtain ⟨c, _, _, h⟩ := h
  obtain ⟨f, b, d, e1, _, _, hs, _⟩ := h j hj
  rw [e1]
  have a := nI_leI (a := f) (b := 0) (by omega) (by omega)
  have b := nI_eq (a := f) (b := 0) (by omega) (by omega)
  rw [nI_0] at a b
  rw [a, b]; omega
/-! the pure scans -/
def og_best (a : Nat → Int32) (p : Nat) : Nat → Nat → Nat → Nat
  | 0, _, b => b
  | d + 1, k, b => og_best a p d (k + 1) (if a ((p + k) % 4) ≤ a b then b else (p + k) % 4)
def og_fin (a : Nat → Int32) (b : Nat) : Int32 := if a b = 0 then -2 else nI b
abbrev og_ok (a1 a2 a3 : Nat → Int32) (x y z : Int32) (g : Nat) : Prop := ¬ a1 g ≤ 0 ∧ ¬ a1 g < x ∧ ¬ a2 g < y ∧ ¬ z < a3 g
def og_xs (a1 a2 a3 : Nat → Int32) (x y z : Int32) (p : Nat) (R : Int32) : Nat → Nat → Int32
  | 0, _ => R
  | d + 1, k => if og_ok a1 a2 a3 x y z ((p + k) % 4) then nI ((p + k) % 4) else og_xs a1 a2 a3 x y z p R d (k + 1)
def og_ys (a1 a2 a3 : Nat → Int32) (x y z : Int32) (p : Nat) : Nat → Nat → Nat → Int32
  | 0, _, b => og_fin a1 b
  | d + 1, k, b => if og_ok a1 a2 a3 x y z ((p + k) % 4) then nI ((p + k) % 4) else og_ys a1 a2 a3 x y z p d (k + 1) (if a1 ((p + k) % 4) ≤ a1 b then b else (p + k) % 4)
theorem og_xy (a1 a2 a3 : Nat → Int32) (x y z : Int32) (p : Nat) : ∀ d k b : Nat, og_xs a1 a2 a3 x y z p (og_fin a1 (og_best a1 p d k b)) d k = og_ys a1 a2 a3 x y z p d k b := by
  intro d
  induction d with
  | zero => intro k b; rfl
  | succ d ih =>
    intro k b
    show (if _ then _ else og_xs a1 a2 a3 x y z p (og_fin a1 (og_best a1 p d (k + 1) (if a1 ((p + k) % 4) ≤ a1 b then b else (p + k) % 4))) d (k + 1)) = (if _ then _ else _)
    rw [ih]
theorem og_b0 (a : Nat → Int32) {p : Nat} (hp : p < 4) : og_best a p 4 0 p = og_best a p 3 1 p := by
  show og_best a p 3 1 (if a ((p + 0) % 4) ≤ a p then p else (p + 0) % 4) = _
  have e : (p + 0) % 4 = p := by omega
  rw [e]
  split <;> rfl
end
section
theorem og_in4 {k : Nat} (h : k < 4) : vp_in (nI k) 4 := vp_in_nI h (by decide)
theorem og_m4 (n : Nat) : n % 4 < 4 := Nat.mod_lt _ (by decide)
theorem og_at (a : Nat → Int32) {k : Nat} (h : k < 4) : a (nI k).toNatClampNeg = a k := by rw [nI_clamp (by omega)]
theorem og_ge4 {k : Nat} (h : k < 4) : ¬ (4 : Int32) ≤ nI k := nI_ge (b := 4) h (by decide)
theorem og_ne4 : ¬ (4 : Int32) = 0 := by decide
section
variable {cp : Int32} {fi fb nd : Nat → Int32} {p : Nat}
theorem og_X174 (hp : p < 4) (post : Int32 → Prop) : ∀ d k b : Nat, k + d = 4 → post (og_fin fi (og_best fi p d k b)) → wX_pickDir_174 post (nI p) cp fi fb nd (d + 1) (nI b) (fi b) (nI k) := by
  intro d
  induction d with
  | zero =>
    intro k b hk h
    have e : k = 4 := by omega
    subst e
    have h' : post (if fi b = 0 then -2 else nI b) := h
    refine br_t (nI_le (a := 4) (b := 4) (by decide) (by decide)) (br_c (fun z => ?_) (fun z => ?_))
    · rw [if_pos z] at h'; exact h'
    · rw [if_neg z] at h'; exact h'
  | succ d ih =>
    intro k b hk h
    have h' : post (og_fin fi (og_best fi p d (k + 1) (if fi ((p + k) % 4) ≤ fi b then b else (p + k) % 4))) := h
    refine br_f (og_ge4 (by omega)) ⟨og_ne4, nm_r (og_g p k hp (by omega)) ⟨og_in4 (og_m4 _), nm_r (og_at fi (og_m4 _)) (br_c (fun z => nm_r (nI_1 k) ?_) (fun z => nm_r (nI_1 k) ?_))⟩⟩
    · rw [if_pos z] at h'; exact ih (k + 1) b (by omega) h'
    · rw [if_neg z] at h'; exact ih (k + 1) _ (by omega) h'
theorem og_X84 (hp : p < 4) (post : Int32 → Prop) (x y z : Int32) : ∀ d k : Nat, k + d = 4 → post (og_xs fi fb nd x y z p (og_fin fi (og_best fi p 3 1 p)) d k) → wX_pickDir_84 post (nI p) x y z cp fi fb nd (d + 1) (nI k) := by
  intro d
  induction d with
  | zero =>
    intro k hk h
    have e : k = 4 := by omega
    subst e
    exact br_t (nI_le (a := 4) (b := 4) (by decide) (by decide)) ⟨og_in4 hp, nm_r (og_at fi hp) ⟨4, og_X174 hp post 3 1 p rfl h⟩⟩
  | succ d ih =>
    intro k hk h
    have h' : post (if og_ok fi fb nd x y z ((p + k) % 4) then nI ((p + k) % 4) else og_xs fi fb nd x y z p (og_fin fi (og_best fi p 3 1 p)) d (k + 1)) := h
    have no : ¬ og_ok fi fb nd x y z ((p + k) % 4) → wX_pickDir_84 post (nI p) x y z cp fi fb nd (d + 1) (nI (k + 1)) := fun q => by
      rw [if_neg q] at h'
      exact ih (k + 1) (by omega) h'
    refine br_f (og_ge4 (by omega)) ⟨og_ne4, nm_r (og_g p k hp (by omega)) ⟨og_in4 (og_m4 _), nm_r (og_at fi (og_m4 _)) ⟨og_in4 (og_m4 _), nm_r (og_at fb (og_m4 _)) ⟨og_in4 (og_m4 _), nm_r (og_at nd (og_m4 _)) ?_⟩⟩⟩⟩
    refine br_c (fun q => nm_r (nI_1 k) (no fun o => o.1 q)) fun q1 => br_c (fun q => nm_r (nI_1 k) (no fun o => o.2.1 q)) fun q2 => br_c (fun q => nm_r (nI_1 k) (no fun o => o.2.2.1 q)) fun q3 => br_c (fun q => nm_r (nI_1 k) (no fun o => o.2.2.2 q)) fun q4 => ?_
    rw [if_pos ⟨q1, q2, q3, q4⟩] at h'
    exact h'
theorem og_Y169 (post : Int32 → Prop) (J : Int32 → Int32 → Prop) (x1 x2 x3 x4 : Int32) {b g k : Nat} (hb : b < 4) (hg : g < 4) (h : J (nI (if fi g ≤ fi b then b else g)) (nI (k + 1))) : wY_pickDir_169 post J x1 x2 x3 x4 (nI b) (nI k) (nI g) cp fi fb nd := by
  refine ⟨og_in4 hg, og_in4 hb, ?_⟩
  rw [og_at fi hg, og_at fi hb]
  refine br_c (fun z => nm_r (nI_1 k) ?_) (fun z => nm_r (nI_1 k) ?_)
  · rw [if_pos z] at h; exact h
  · rw [if_neg z] at h; exact h
theorem og_Y108 (hz : ∀ j, j < 4 → (fi j ≤ 0 ↔ fi j = 0)) (hp : p < 4) (post : Int32 → Prop) (x y z : Int32) : ∀ d k b : Nat, k + d = 4 → b < 4 → post (og_ys fi fb nd x y z p d k b) → wY_pickDir_108 post (nI p) x y z cp fi fb nd (d + 1) (nI b) (nI k) := by
  intro d
  induction d with
  | zero =>
    intro k b hk hb h
    have e : k = 4 := by omega
    subst e
    have h' : post (if fi b = 0 then -2 else nI b) := h
    refine br_t (nI_le (a := 4) (b := 4) (by decide) (by decide)) ⟨og_in4 hb, ?_⟩
    rw [og_at fi hb]
    refine br_c (fun q => ?_) (fun q => ?_)
    · rw [if_pos ((hz b hb).mp q)] at h'; exact h'
    · rw [if_neg (fun e => q ((hz b hb).mpr e))] at h'; exact h'
  | succ d ih =>
    intro k b hk hb h
    have hg : (p + k) % 4 < 4 := og_m4 _
    have h' : post (if og_ok fi fb nd x y z ((p + k) % 4) then nI ((p + k) % 4) else og_ys fi fb nd x y z p d (k + 1) (if fi ((p + k) % 4) ≤ fi b then b else (p + k) % 4)) := h
    have hb' : (if fi ((p + k) % 4) ≤ fi b then b else (p + k) % 4) < 4 := by split <;> assumption
    have no : ¬ og_ok fi fb nd x y z ((p + k) % 4) → wY_pickDir_169 post (wY_pickDir_108 post (nI p) x y z cp fi fb nd (d + 1)) (nI p) x y z (nI b) (nI k) (nI ((p + k) % 4)) cp fi fb nd := fun q => by
      rw [if_neg q] at h'
      exact og_Y169 post _ _ _ _ _ hb hg (ih (k + 1) _ (by omega) hb' h')
    refine br_f (og_ge4 (by omega)) ⟨og_ne4, nm_r (og_g p k hp (by omega)) ⟨og_in4 hg, ?_⟩⟩
    rw [og_at fi hg, og_at fb hg, og_at nd hg]
    refine br_c (fun q => no fun o => o.1 q) fun q1 => ⟨og_in4 hg, br_c (fun q => no fun o => o.2.1 q) fun q2 => ⟨og_in4 hg, br_c (fun q => no fun o => o.2.2.1 q) fun q3 => ⟨og_in4 hg, br_c (fun q => no fun o => o.2.2.2 q) fun q4 => ?_⟩⟩⟩
    rw [if_pos ⟨q1, q2, q3, q4⟩] at h'
    exact h'
/-- the sums: four turns of the first loop -/
theorem og_X21 (post : Int32 → Prop) (x1 : Int32) (h : ∃ n : Nat, wX_pickDir_84 post x1 ((fi 0 + fi 1 + fi 2 + fi 3) / 4) ((fb 0 + fb 1 + fb 2 + fb 3) / 4) ((nd 0 + nd 1 + nd 2 + nd 3) / 4) cp fi fb nd n (nI 0)) : wX_pickDir_21 post x1 cp fi fb nd 5 0 0 0 (nI 0) := by
  refine br_f (og_ge4 (by decide)) ⟨og_in4 (by decide), nm_r (e' := fi 0) (by rw [og_at fi (by decide), Int32.zero_add]) ⟨og_in4 (by decide), nm_r (e' := fb 0) (by rw [og_at fb (by decide), Int32.zero_add]) ⟨og_in4 (by decide), nm_r (e' := nd 0) (by rw [og_at nd (by decide), Int32.zero_add]) (nm_r (nI_1 0) ?_)⟩⟩⟩
  refine br_f (og_ge4 (k := 1) (by decide)) ⟨og_in4 (k := 1) (by decide), nm_r (e' := fi 0 + fi 1) (by rw [og_at fi (by decide)]) ⟨og_in4 (k := 1) (by decide), nm_r (e' := fb 0 + fb 1) (by rw [og_at fb (by decide)]) ⟨og_in4 (k := 1) (by decide), nm_r (e' := nd 0 + nd 1) (by rw [og_at nd (by decide)]) (nm_r (nI_1 1) ?_)⟩⟩⟩
  refine br_f (og_ge4 (k := 2) (by decide)) ⟨og_in4 (k := 2) (by decide), nm_r (e' := fi 0 + fi 1 + fi 2) (by rw [og_at fi (by decide)]) ⟨og_in4 (k := 2) (by decide), nm_r (e' := fb 0 + fb 1 + fb 2) (by rw [og_at fb (by decide)]) ⟨og_in4 (k := 2) (by decide), nm_r (e' := nd 0 + nd 1 + nd 2) (by rw [og_at nd (by decide)]) (nm_r (nI_1 2) ?_)⟩⟩⟩
  refine br_f (og_ge4 (k := 3) (by decide)) ⟨og_in4 (k := 3) (by decide), nm_r (e' := fi 0 + fi 1 + fi 2 + fi 3) (by rw [og_at fi (by decide)]) ⟨og_in4 (k := 3) (by decide), nm_r (e' := fb 0 + fb 1 + fb 2 + fb 3) (by rw [og_at fb (by decide)]) ⟨og_in4 (k := 3) (by decide), nm_r (e' := nd 0 + nd 1 + nd 2 + nd 3) (by rw [og_at nd (by decide)]) (nm_r (nI_1 3) ?_)⟩⟩⟩
  exact br_t (nI_le (a := 4) (b := 4) (by decide) (by decide)) ⟨og_ne4, nm_e ⟨og_ne4, nm_e ⟨og_ne4, nm_e h⟩⟩⟩
/-- both sides pick one group -/
theorem og_pick (hI : og_I cp fi fb nd) (hp : p < 4) : ∃ r : Int32, (∀ post : Int32 → Prop, post r → wpX_pickDir post (cp, fi, fb, nd) (nI p)) ∧ (∀ post : Int32 → Prop, post r → wpY_pickDir post (cp, fi, fb, nd) (nI p)) := by
  have h0 : ¬ nI p < 0 := nI_pos (by omega)
  have h3 : nI p ≤ 3 := nI_le (b := 3) (by omega) (by decide)
  refine ⟨og_ys fi fb nd ((fi 0 + fi 1 + fi 2 + fi 3) / 4) ((fb 0 + fb 1 + fb 2 + fb 3) / 4) ((nd 0 + nd 1 + nd 2 + nd 3) / 4) p 4 0 p, fun post h => ?_, fun post h => ?_⟩
  · refine br_f h0 (br_t h3 ⟨5, og_X21 post (nI p) ⟨5, og_X84 hp post _ _ _ 4 0 rfl ?_⟩⟩)
    rw [← og_b0 fi hp, og_xy]
    exact h
  · exact br_f h0 (br_t h3 ⟨og_ne4, nm_e ⟨og_ne4, nm_e ⟨og_ne4, nm_e ⟨5, og_Y108 (fun j hj => og_z hI hj) hp post _ _ _ 4 0 p rfl hp h⟩⟩⟩⟩)
end
end
section
def og_K (v : Int32) : Nat → Int32 := fun j => if j < 4 then v else 0
theorem og_up4 (v : Int32) : upd (upd (upd (upd (fun _ => 0) 0 v) 1 v) 2 v) 3 v = og_K v := by
  funext j
  unfold upd og_K
  by_cases h3 : j = 3
  · subst h3; rfl
  by_cases h2 : j = 2
  · subst h2; rfl
  by_cases h1 : j = 1
  · subst h1; rfl
  by_cases h0 : j = 0
  · subst h0; rfl
  rw [if_neg h3, if_neg h2, if_neg h1, if_neg h0, if_neg (by omega)]
theorem og_dn4 (v : Int32) : upd (upd (upd (upd (fun _ => 0) 3 v) 2 v) 1 v) 0 v = og_K v := by
  funext j
  unfold upd og_K
  by_cases h3 : j = 3
  · subst h3; rfl
  by_cases h2 : j = 2
  · subst h2; rfl
  by_cases h1 : j = 1
  · subst h1; rfl
  by_cases h0 : j = 0
  · subst h0; rfl
  rw [if_neg h0, if_neg h1, if_neg h2, if_neg h3, if_neg (by omega)]
theorem og_K0 : og_K (nI 0) = fun _ => 0 := by
  funext j
  unfold og_K
  split <;> rfl
theorem og_Xs {post : SX → Prop} {c n k : Nat} {A B D : Nat → Int32} (hc : c ≤ 60000) (hk : k < 4) (h : wX_init_50 post (nI c) (nI c) n (nI (k + 1)) (upd A k (nI 4)) (upd B k (nI c)) (upd D k (nI 0))) : wX_init_50 post (nI c) (nI c) (n + 1) (nI k) A B D :=
  br_f (og_ge4 hk) ⟨og_in4 hk, nm_r (by rw [nI_clamp (by omega), og_c4]) ⟨og_in4 hk, nm_r (by rw [nI_clamp (by omega), og_ch (by omega)]) ⟨og_in4 hk, nm_r (by rw [nI_clamp (by omega), og_s0]) (nm_r (nI_1 k) h)⟩⟩⟩
theorem og_Xi {post : SX → Prop} {c : Nat} (hc : c ≤ 60000) (h : post (nI c, og_K (nI 4), og_K (nI c), fun _ => 0)) : ∃ n : Nat, wX_init_50 post (nI c) (nI c) n (nI 0) (fun _ => 0) (fun _ => 0) (fun _ => 0) := by
  refine ⟨5, og_Xs hc (by decide) (og_Xs hc (by decide) (og_Xs hc (by decide) (og_Xs hc (by decide) ?_)))⟩
  rw [og_up4, og_up4, og_up4, og_K0]
  exact br_t (nI_le (a := 4) (b := 4) (by decide) (by decide)) h
theorem og_Yi {post : SY → Prop} {c : Nat} (hc : c ≤ 60000) (h : post (nI c, og_K (nI 4), og_K (nI c), fun _ => 0)) : wY_init_47 post (nI c) 0 (fun _ => 0) (fun _ => 0) (fun _ => 0) := by
  unfold wY_init_47
  rw [og_c4, og_ch (show c < 65536 by omega)]
  refine nm_e (nm_e (nm_e (nm_e (nm_e (nm_e (nm_e (nm_e ?_)))))))
  rw [og_dn4, og_dn4]
  exact h
/-- the two states are the same; each group holds four inodes, free or as directories, and at most cap free blocks -/
def i_Rel (_ : Nat) (u : SX) (v : SY) : Prop := u = v ∧ og_I u.1 u.2.1 u.2.2.1 u.2.2.2
theorem i_up {k : Nat} {u : SX} {v : SY} (h : i_Rel k u v) : i_Rel (k + 3) u v := h
theorem og_st {c : Nat} (hc : c ≤ 60000) : i_Rel 1 (nI c, og_K (nI 4), og_K (nI c), fun _ => 0) (nI c, og_K (nI 4), og_K (nI c), fun _ => 0) :=
  ⟨rfl, c, rfl, hc, fun j hj => ⟨4, c, 0, if_pos hj, if_pos hj, rfl, rfl, Nat.le_refl c⟩⟩
theorem i_vc0 (k0 : Int32) : wpX_init (fun u => wpY_init (fun v => i_Rel 1 u v) k0) k0 := by
  by_cases h1 : 1 ≤ k0
  · by_cases h6 : k0 ≤ 60000
    · have h0 : ¬ k0 < 0 := Int32.not_lt.mpr (Int32.le_trans (by decide) h1)
      obtain ⟨c, hc, rfl⟩ := nI_of2 (n := 60000) (by decide) h0 h6
      exact br_t h1 (br_t h6 (og_Xi hc (br_t h1 (br_t h6 (og_Yi hc (og_st hc))))))
    · exact br_t h1 (br_f h6 (og_Xi (c := 60000) (by decide) (br_t h1 (br_f h6 (og_Yi (c := 60000) (by decide) (og_st (c := 60000) (by decide)))))))
  · have h6 : (1 : Int32) ≤ 60000 := by decide
    exact br_f h1 (br_t h6 (og_Xi (c := 1) (by decide) (br_f h1 (og_Yi (c := 1) (by decide) (og_st (c := 1) (by decide))))))
theorem i_vc_pickDir {k : Nat} {u : SX} {v : SY} (I : i_Rel k u v) (hk : k + 3 ≤ 1537) (v1 : Int32) : wpX_pickDir (fun r => wpY_pickDir (fun r' => r' = r ∧ i_Rel (k + 3) u v) v v1) u v1 := by
  have I' : i_Rel (k + 3) u v := I
  obtain ⟨e, hI⟩ := I
  cases e
  obtain ⟨cp, fi, fb, nd⟩ := u
  by_cases h0 : v1 < 0
  · exact br_t h0 (br_t h0 ⟨rfl, I'⟩)
  by_cases h3 : v1 ≤ 3
  · obtain ⟨p, hp, rfl⟩ := nI_of2 (n := 3) (by decide) h0 h3
    obtain ⟨r, hX, hY⟩ := og_pick (p := p) hI (by omega)
    exact hX _ (hY _ ⟨rfl, I'⟩)
  · exact br_f h0 (br_f h3 (br_f h0 (br_f h3 ⟨rfl, I'⟩)))
theorem i_vc_charge {k : Nat} {u : SX} {v : SY} (I : i_Rel k u v) (hk : k + 3 ≤ 1537) (v1 : Int32) (v2 : Int32) : wpX_charge (fun r u' => wpY_charge (fun r' v' => r' = r ∧ i_Rel (k + 3) u' v') v v1 v2) u v1 v2 := by
  have I' : i_Rel (k + 3) u v := I
  obtain ⟨e, hI⟩ := I
  cases e
  obtain ⟨cp, fi, fb, nd⟩ := u
  by_cases h0 : v1 < 0
  · exact br_t h0 (br_t h0 ⟨rfl, I'⟩)
  by_cases h3 : v1 ≤ 3
  · obtain ⟨g, hg, rfl⟩ := nI_of2 (n := 3) (by decide) h0 h3
    obtain ⟨c, hcp, hc, hG⟩ := hI
    obtain ⟨f, b, d, e1, e2, e3, hs, hb⟩ := hG g (by omega)
    have hin : vp_in (nI g) 4 := og_in4 (by omega)
    have hcl : (nI g).toNatClampNeg = g := nI_clamp (by omega)
    have ef : fi (nI g).toNatClampNeg = nI f := by rw [hcl]; exact e1
    have eb : fb (nI g).toNatClampNeg = nI b := by rw [hcl]; exact e2
    have ed : nd (nI g).toNatClampNeg = nI d := by rw [hcl]; exact e3
    refine br_f h0 (br_t h3 ⟨hin, nm_r ef ⟨hin, nm_r eb ⟨hin, nm_r ed ?_⟩⟩⟩)
    by_cases hf : f = 0
    · subst hf
      exact br_f (nI_nlt (a := 0) (b := 0) (by decide) (by decide)) (br_f h0 (br_t h3 ⟨hin, br_t ef ⟨rfl, I'⟩⟩))
    have hf0 : (0 : Int32) < nI f := nI_lt (a := 0) (by omega) (by omega)
    have hfn : ¬ fi (nI g).toNatClampNeg = 0 := by rw [ef]; exact nI_ne0 (by omega) (by omega)
    by_cases hn : v2 < 0
    · exact br_t hf0 (br_t hn (br_f h0 (br_t h3 ⟨hin, br_f hfn (br_t hn ⟨rfl, I'⟩)⟩)))
    by_cases hw : v2 ≤ nI b
    · have hw' : v2 ≤ fb (nI g).toNatClampNeg := by rw [eb]; exact hw
      obtain ⟨w, hw31, rfl⟩ := nI_of hn
      have hwb : w ≤ b := (nI_leI hw31 (by omega)).mp hw
      have ub : upd fb (nI g).toNatClampNeg (vp_nar .char (((nI b - nI w).toUInt32 % 65536).toInt32)) = upd fb g (nI (b - w)) := by
        rw [hcl, pk_sub hwb, og_ch (by omega)]
      have ud : upd nd (nI g).toNatClampNeg (vp_nar .short ((nI d + 1).toInt16.toInt32)) = upd nd g (nI (d + 1)) := by
        rw [hcl, nI_1, og_sh (by omega)]
      have s1 : nI f - 1 = nI (f - 1) := pk_sub (b := 1) (by omega)
      have uf : upd fi (nI g).toNatClampNeg (vp_nar .char (((nI f - 1).toUInt32 % 65536).toInt32)) = upd fi g (nI (f - 1)) := by
        rw [hcl, s1, og_ch (by omega)]
      have rf : (((fi (nI g).toNatClampNeg) - 1).toUInt32 % 65536).toInt32 = nI f - 1 := by
        rw [ef, s1, og_ca (by omega)]
      have fin : i_Rel (k + 3) (cp, upd fi g (nI (f - 1)), upd fb g (nI (b - w)), upd nd g (nI (d + 1))) (cp, upd fi g (nI (f - 1)), upd fb g (nI (b - w)), upd nd g (nI (d + 1))) := by
        refine ⟨rfl, ?_⟩
        have hcp' : cp = nI c := hcp
        rw [hcp']
        exact og_upd hc hG ⟨f - 1, b - w, d + 1, rfl, rfl, rfl, by omega, by omega⟩
      refine br_t hf0 (br_f hn (br_t hw ⟨hin, nm_r ub ⟨hin, nm_r ud ⟨hin, nm_r uf ?_⟩⟩⟩))
      exact br_f h0 (br_t h3 ⟨hin, br_f hfn (br_f hn ⟨hin, br_t hw' ⟨hin, hin, nm_r (by rw [eb]; exact ub) ⟨hin, hin, nm_r (by rw [ed]; exact ud) ⟨hin, hin, nm_r (by rw [ef]; exact uf) ⟨rf, fin⟩⟩⟩⟩⟩)⟩)
    · have hw' : ¬ v2 ≤ fb (nI g).toNatClampNeg := by rw [eb]; exact hw
      exact br_t hf0 (br_f hn (br_f hw (br_f h0 (br_t h3 ⟨hin, br_f hfn (br_f hn ⟨hin, br_f hw' ⟨rfl, I'⟩⟩)⟩))))
  · exact br_f h0 (br_f h3 (br_f h0 (br_f h3 ⟨rfl, I'⟩)))
theorem i_vc_discharge {k : Nat} {u : SX} {v : SY} (I : i_Rel k u v) (hk : k + 3 ≤ 1537) (v1 : Int32) (v2 : Int32) : wpX_discharge (fun r u' => wpY_discharge (fun r' v' => r' = r ∧ i_Rel (k + 3) u' v') v v1 v2) u v1 v2 := by
  have I' : i_Rel (k + 3) u v := I
  obtain ⟨e, hI⟩ := I
  cases e
  obtain ⟨cp, fi, fb, nd⟩ := u
  by_cases h0 : v1 < 0
  · exact br_t h0 (br_t h0 ⟨rfl, I'⟩)
  by_cases h3 : v1 ≤ 3
  · obtain ⟨g, hg, rfl⟩ := nI_of2 (n := 3) (by decide) h0 h3
    obtain ⟨c, hcp, hc, hG⟩ := hI
    obtain ⟨f, b, d, e1, e2, e3, hs, hb⟩ := hG g (by omega)
    have hin : vp_in (nI g) 4 := og_in4 (by omega)
    have hcl : (nI g).toNatClampNeg = g := nI_clamp (by omega)
    have ef : fi (nI g).toNatClampNeg = nI f := by rw [hcl]; exact e1
    have eb : fb (nI g).toNatClampNeg = nI b := by rw [hcl]; exact e2
    have ed : nd (nI g).toNatClampNeg = nI d := by rw [hcl]; exact e3
    refine br_f h0 (br_t h3 ⟨hin, nm_r ef ⟨hin, nm_r eb ⟨hin, nm_r ed ?_⟩⟩⟩)
    by_cases hd : d = 0
    · subst hd
      exact br_f (nI_nlt (a := 0) (b := 0) (by decide) (by decide)) (br_f h0 (br_t h3 ⟨hin, br_t ed ⟨rfl, I'⟩⟩))
    have hd0 : (0 : Int32) < nI d := nI_lt (a := 0) (by omega) (by omega)
    have hdn : ¬ nd (nI g).toNatClampNeg = 0 := by rw [ed]; exact nI_ne0 (by omega) (by omega)
    by_cases hn : v2 < 0
    · exact br_t hd0 (br_t hn (br_f h0 (br_t h3 ⟨hin, br_f hdn (br_t hn ⟨rfl, I'⟩)⟩)))
    by_cases hw : v2 ≤ cp - nI b
    · have hw' : v2 ≤ cp - fb (nI g).toNatClampNeg := by rw [eb]; exact hw
      obtain ⟨w, hw31, rfl⟩ := nI_of hn
      have hcp' : cp = nI c := hcp
      have hwb : w ≤ c - b := by
        have h := hw
        rw [hcp', pk_sub hb] at h
        exact (nI_leI hw31 (by omega)).mp h
      have ub : upd fb (nI g).toNatClampNeg (vp_nar .char (((nI b + nI w).toUInt32 % 65536).toInt32)) = upd fb g (nI (b + w)) := by
        rw [hcl, nI_add, og_ch (by omega)]
      have uf : upd fi (nI g).toNatClampNeg (vp_nar .char (((nI f + 1).toUInt32 % 65536).toInt32)) = upd fi g (nI (f + 1)) := by
        rw [hcl, nI_1, og_ch (by omega)]
      have s1 : nI d - 1 = nI (d - 1) := pk_sub (b := 1) (by omega)
      have ud : upd nd (nI g).toNatClampNeg (vp_nar .short ((nI d - 1).toInt16.toInt32)) = upd nd g (nI (d - 1)) := by
        rw [hcl, s1, og_sh (by omega)]
      have rd : ((nd (nI g).toNatClampNeg) - 1).toInt16.toInt32 = nI d - 1 := by
        rw [ed, s1, og_sa (by omega)]
      have fin : i_Rel (k + 3) (cp, upd fi g (nI (f + 1)), upd fb g (nI (b + w)), upd nd g (nI (d - 1))) (cp, upd fi g (nI (f + 1)), upd fb g (nI (b + w)), upd nd g (nI (d - 1))) := by
        refine ⟨rfl, ?_⟩
        rw [hcp']
        exact og_upd hc hG ⟨f + 1, b + w, d - 1, rfl, rfl, rfl, by omega, by omega⟩
      refine br_t hd0 (br_f hn (br_t hw ⟨hin, nm_r ub ⟨hin, nm_r uf ⟨hin, nm_r ud ?_⟩⟩⟩))
      exact br_f h0 (br_t h3 ⟨hin, br_f hdn (br_f hn ⟨hin, br_t hw' ⟨hin, hin, nm_r (by rw [eb]; exact ub) ⟨hin, hin, nm_r (by rw [ef]; exact uf) ⟨hin, hin, nm_r (by rw [ed]; exact ud) ⟨rd, fin⟩⟩⟩⟩⟩)⟩)
    · have hw' : ¬ v2 ≤ cp - fb (nI g).toNatClampNeg := by rw [eb]; exact hw
      exact br_t hd0 (br_f hn (br_f hw (br_f h0 (br_t h3 ⟨hin, br_f hdn (br_f hn ⟨hin, br_f hw' ⟨rfl, I'⟩⟩)⟩))))
  · exact br_f h0 (br_f h3 (br_f h0 (br_f h3 ⟨rfl, I'⟩)))
theorem i_vc_peek {k : Nat} {u : SX} {v : SY} (I : i_Rel k u v) (hk : k + 3 ≤ 1537) (v1 : Int32) (v2 : Int32) : wpX_peek (fun r => wpY_peek (fun r' => r' = r ∧ i_Rel (k + 3) u v) v v1 v2) u v1 v2 := by
  have I' : i_Rel (k + 3) u v := I
  obtain ⟨e, hI⟩ := I
  cases e
  obtain ⟨cp, fi, fb, nd⟩ := u
  by_cases h0 : v1 < 0
  · exact br_t h0 (br_t h0 ⟨rfl, I'⟩)
  by_cases h3 : v1 ≤ 3
  · obtain ⟨g, hg, rfl⟩ := nI_of2 (n := 3) (by decide) h0 h3
    have hin : vp_in (nI g) 4 := og_in4 (by omega)
    by_cases q0 : v2 = 0
    · exact br_f h0 (br_t h3 (br_t q0 ⟨hin, br_f h0 (br_t h3 (br_t q0 ⟨hin, rfl, I'⟩))⟩))
    by_cases q1 : v2 = 1
    · exact br_f h0 (br_t h3 (br_f q0 (br_t q1 ⟨hin, br_f h0 (br_t h3 (br_f q0 (br_t q1 ⟨hin, rfl, I'⟩)))⟩)))
    by_cases q2 : v2 = 2
    · exact br_f h0 (br_t h3 (br_f q0 (br_f q1 (br_t q2 ⟨hin, br_f h0 (br_t h3 (br_f q0 (br_f q1 (br_t q2 ⟨hin, rfl, I'⟩))))⟩))))
    · exact br_f h0 (br_t h3 (br_f q0 (br_f q1 (br_f q2 (br_f h0 (br_t h3 (br_f q0 (br_f q1 (br_f q2 ⟨rfl, I'⟩)))))))))
  · exact br_f h0 (br_f h3 (br_f h0 (br_f h3 ⟨rfl, I'⟩)))
end
