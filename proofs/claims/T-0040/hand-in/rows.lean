section
/-! four cells, and zero behind them: every array of this claim is 'ps_rd q' -/
abbrev ps_Q : Type := Int32 × Int32 × Int32 × Int32
def ps_rd (q : ps_Q) (j : Nat) : Int32 := match j with
  | 0 => q.1
  | 1 => q.2.1
  | 2 => q.2.2.1
  | 3 => q.2.2.2
  | _ + 4 => 0
def ps_wr (q : ps_Q) (j : Nat) (x : Int32) : ps_Q := match j with
  | 0 => (x, q.2.1, q.2.2.1, q.2.2.2)
  | 1 => (q.1, x, q.2.2.1, q.2.2.2)
  | 2 => (q.1, q.2.1, x, q.2.2.2)
  | 3 => (q.1, q.2.1, q.2.2.1, x)
  | _ + 4 => q
theorem ps_zero : (fun _ : Nat => (0 : Int32)) = ps_rd (0, 0, 0, 0) := by
  funext i
  match i with
  | 0 => rfl
  | 1 => rfl
  | 2 => rfl
  | 3 => rfl
  | _ + 4 => rfl
theorem ps_upd (q : ps_Q) (j : Nat) (x : Int32) (h : j < 4) : upd (ps_rd q) j x = ps_rd (ps_wr q j x) := by
  funext i
  have hj : j = 0 ∨ j = 1 ∨ j = 2 ∨ j = 3 := by omega
  rcases hj with rfl | rfl | rfl | rfl
  all_goals
    match i with
    | 0 => simp [upd, ps_rd, ps_wr]
    | 1 => simp [upd, ps_rd, ps_wr]
    | 2 => simp [upd, ps_rd, ps_wr]
    | 3 => simp [upd, ps_rd, ps_wr]
    | m + 4 => simp [upd, ps_rd, ps_wr]
def ps_in (x : Int32) : Bool := decide (¬ (x < 0 ∨ 4 ≤ x.toNatClampNeg))
theorem ps_inI {x : Int32} (h : ps_in x = true) : vp_in x 4 := by
  have h' : ¬ (x < 0 ∨ 4 ≤ x.toNatClampNeg) := of_decide_eq_true h
  exact h'
theorem ps_inL {x : Int32} (h : ps_in x = true) : x.toNatClampNeg < 4 := by
  have h' : ¬ (x < 0 ∨ 4 ≤ x.toNatClampNeg) := of_decide_eq_true h
  exact Nat.lt_of_not_le (fun z => h' (Or.inr z))
theorem ps_and {a b : Bool} (h : (a && b) = true) : a = true ∧ b = true := by
  cases a <;> cases b <;> simp_all
/-! the two sides' loops, reckoned: 'none' where an index is outside or the fuel is used up -/
def ps_rs (f : Int32) : Nat → Int32 → ps_Q → Option ps_Q
  | 0, _, _ => none
  | n + 1, i, a => if f ≤ i then some a else if ps_in i = true then ps_rs f n (i + 1) (ps_wr a i.toNatClampNeg i) else none
def ps_x112 : Nat → Int32 → Int32 → ps_Q → Option (Int32 × ps_Q)
  | 0, _, _, _ => none
  | n + 1, lo, hi, q => if hi ≤ lo then some (0, q) else if (ps_in lo && ps_in hi) = true then ps_x112 n (lo + 1) (hi + (-1)) (ps_wr (ps_wr q lo.toNatClampNeg (ps_rd q hi.toNatClampNeg)) hi.toNatClampNeg (ps_rd q lo.toNatClampNeg)) else none
def ps_x73 (f i j : Int32) (q : ps_Q) : Option (Int32 × ps_Q) :=
  if (ps_in i && ps_in j) = true then ps_x112 4 (i + 1) (f - 1) (ps_wr (ps_wr q i.toNatClampNeg (ps_rd q j.toNatClampNeg)) j.toNatClampNeg (ps_rd q i.toNatClampNeg)) else none
def ps_x47 (f i : Int32) (q : ps_Q) : Nat → Int32 → Option (Int32 × ps_Q)
  | 0, _ => none
  | n + 1, j => if j ≤ i then ps_x73 f i j q else if (ps_in j && ps_in i) = true then (if ps_rd q i.toNatClampNeg < ps_rd q j.toNatClampNeg then ps_x73 f i j q else ps_x47 f i q n (j + (-1))) else none
def ps_x34 (f i : Int32) (q : ps_Q) : Option (Int32 × ps_Q) := if 0 ≤ i then ps_x47 f i q 5 (f - 1) else some (-1, q)
def ps_x7 (f : Int32) (q : ps_Q) : Nat → Int32 → Option (Int32 × ps_Q)
  | 0, _ => none
  | n + 1, i => if i < 0 then ps_x34 f i q else if (ps_in i && ps_in (i + 1)) = true then (if ps_rd q i.toNatClampNeg < ps_rd q (i + 1).toNatClampNeg then ps_x34 f i q else ps_x7 f q n (i + (-1))) else none
def ps_b7 (f : Int32) : Nat → Int32 → ps_Q → Option (Int32 × ps_Q)
  | 0, _, _ => none
  | n + 1, i, t => if i < 0 then some (0, t) else if ps_in i = true then (if f - 1 ≤ ps_rd t i.toNatClampNeg then ps_b7 f n (i + (-1)) (ps_wr t i.toNatClampNeg 0) else some (1, ps_wr t i.toNatClampNeg (ps_rd t i.toNatClampNeg + 1))) else none
def ps_d12 (i : Int32) (t : ps_Q) : Nat → Int32 → Option Bool
  | 0, _ => none
  | n + 1, j => if i ≤ j then some true else if (ps_in i && ps_in j) = true then (if ps_rd t i.toNatClampNeg = ps_rd t j.toNatClampNeg then some false else ps_d12 i t n (j + 1)) else none
def ps_d2 (f : Int32) (t : ps_Q) : Nat → Int32 → Option Int32
  | 0, _ => none
  | n + 1, i => if f ≤ i then some 1 else if ps_d12 i t 5 0 = some true then ps_d2 f t n (i + 1) else if ps_d12 i t 5 0 = some false then some 0 else none
/-- cells i .. f-1 of s, written over those of d (the two copying loops of the reference) -/
def ps_cp (f : Int32) (s : ps_Q) : Nat → Int32 → ps_Q → Option ps_Q
  | 0, _, _ => none
  | n + 1, i, d => if f ≤ i then some d else if ps_in i = true then ps_cp f s n (i + 1) (ps_wr d i.toNatClampNeg (ps_rd s i.toNatClampNeg)) else none
def ps_y28 (f : Int32) : Nat → ps_Q → ps_Q → Option (Int32 × ps_Q × ps_Q)
  | 0, _, _ => none
  | n + 1, a, t => match ps_b7 f 6 (f - 1) t with
    | none => none
    | some (r, t') => if r = 0 then some (-1, a, t') else match ps_d2 f t' 6 0 with
      | none => none
      | some d => if d = 0 then ps_y28 f n a t' else match ps_cp f t' 6 0 a with
        | none => none
        | some a' => some (0, a', t')
end
section
/-! each reckoned loop gives the printed walk -/
theorem ps_x112s {f r : Int32} {q' : ps_Q} {post : Int32 → SX → Prop} (hp : post r (f, ps_rd q')) : ∀ (n : Nat) (lo hi : Int32) (q : ps_Q), ps_x112 n lo hi q = some (r, q') → wX_next_112 post f n lo hi (ps_rd q) := by
  intro n
  induction n with
  | zero => intro lo hi q h; exact absurd h (by simp [ps_x112])
  | succ n ih =>
    intro lo hi q h
    rw [ps_x112] at h
    by_cases c : hi ≤ lo
    · rw [if_pos c] at h
      cases h
      exact br_t c hp
    · rw [if_neg c] at h
      by_cases d : (ps_in lo && ps_in hi) = true
      · rw [if_pos d] at h
        obtain ⟨d1, d2⟩ := ps_and d
        exact br_f c ⟨ps_inI d1, nm_e ⟨ps_inI d2, ps_inI d1, nm_r (ps_upd _ _ _ (ps_inL d1)) ⟨ps_inI d2, nm_r (ps_upd _ _ _ (ps_inL d2)) (nm_e (nm_e (ih _ _ _ h)))⟩⟩⟩
      · rw [if_neg d] at h
        cases h
theorem ps_x73s {f r i j : Int32} {q q' : ps_Q} {post : Int32 → SX → Prop} (hp : post r (f, ps_rd q')) (h : ps_x73 f i j q = some (r, q')) : wX_next_73 post i j f (ps_rd q) := by
  unfold ps_x73 at h
  by_cases d : (ps_in i && ps_in j) = true
  · rw [if_pos d] at h
    obtain ⟨d1, d2⟩ := ps_and d
    exact And.intro (ps_inI d1) (nm_e ⟨ps_inI d2, ps_inI d1, nm_r (ps_upd _ _ _ (ps_inL d1)) ⟨ps_inI d2, nm_r (ps_upd _ _ _ (ps_inL d2)) (nm_e (nm_e ⟨4, ps_x112s hp _ _ _ _ h⟩))⟩⟩)
  · rw [if_neg d] at h
    cases h
theorem ps_x47s {f r i : Int32} {q q' : ps_Q} {post : Int32 → SX → Prop} (hp : post r (f, ps_rd q')) : ∀ (n : Nat) (j : Int32), ps_x47 f i q n j = some (r, q') → wX_next_47 post i f (ps_rd q) n j := by
  intro n
  induction n with
  | zero => intro j h; exact absurd h (by simp [ps_x47])
  | succ n ih =>
    intro j h
    rw [ps_x47] at h
    by_cases c : j ≤ i
    · rw [if_pos c] at h
      exact br_t c (ps_x73s hp h)
    · rw [if_neg c] at h
      by_cases d : (ps_in j && ps_in i) = true
      · rw [if_pos d] at h
        obtain ⟨d1, d2⟩ := ps_and d
        by_cases e : ps_rd q i.toNatClampNeg < ps_rd q j.toNatClampNeg
        · rw [if_pos e] at h
          exact br_f c ⟨ps_inI d1, ps_inI d2, br_t e (ps_x73s hp h)⟩
        · rw [if_neg e] at h
          exact br_f c ⟨ps_inI d1, ps_inI d2, br_f e (nm_e (ih _ h))⟩
      · rw [if_neg d] at h
        cases h
theorem ps_x34s {f r i : Int32} {q q' : ps_Q} {post : Int32 → SX → Prop} (hp : post r (f, ps_rd q')) (h : ps_x34 f i q = some (r, q')) : wX_next_34 post i f (ps_rd q) := by
  unfold ps_x34 at h
  by_cases c : 0 ≤ i
  · rw [if_pos c] at h
    exact br_t c (nm_e ⟨5, ps_x47s hp _ _ h⟩)
  · rw [if_neg c] at h
    cases h
    exact br_f c hp
theorem ps_x7s {f r : Int32} {q q' : ps_Q} {post : Int32 → SX → Prop} (hp : post r (f, ps_rd q')) : ∀ (n : Nat) (i : Int32), ps_x7 f q n i = some (r, q') → wX_next_7 post f (ps_rd q) n i := by
  intro n
  induction n with
  | zero => intro i h; exact absurd h (by simp [ps_x7])
  | succ n ih =>
    intro i h
    rw [ps_x7] at h
    by_cases c : i < 0
    · rw [if_pos c] at h
      exact br_t c (ps_x34s hp h)
    · rw [if_neg c] at h
      by_cases d : (ps_in i && ps_in (i + 1)) = true
      · rw [if_pos d] at h
        obtain ⟨d1, d2⟩ := ps_and d
        by_cases e : ps_rd q i.toNatClampNeg < ps_rd q (i + 1).toNatClampNeg
        · rw [if_pos e] at h
          exact br_f c ⟨ps_inI d1, ps_inI d2, br_t e (ps_x34s hp h)⟩
        · rw [if_neg e] at h
          exact br_f c ⟨ps_inI d1, ps_inI d2, br_f e (nm_e (ih _ h))⟩
      · rw [if_neg d] at h
        cases h
theorem ps_xn {f r : Int32} {q q' : ps_Q} {post : Int32 → SX → Prop} (h : ps_x7 f q 5 (f - 2) = some (r, q')) (hp : post r (f, ps_rd q')) : wpX_next post (f, ps_rd q) :=
  nm_e (e := f - 2) (P := fun x => ∃ n7 : Nat, wX_next_7 post f (ps_rd q) n7 x) ⟨5, ps_x7s hp _ _ h⟩
theorem ps_b7s {f r : Int32} {a : Nat → Int32} {t' : ps_Q} {post : Int32 → SY → Prop} (hp : post r (f, a, ps_rd t')) : ∀ (n : Nat) (i : Int32) (t : ps_Q), ps_b7 f n i t = some (r, t') → wY_bump_7 post f n i a (ps_rd t) := by
  intro n
  induction n with
  | zero => intro i t h; exact absurd h (by simp [ps_b7])
  | succ n ih =>
    intro i t h
    rw [ps_b7] at h
    by_cases c : i < 0
    · rw [if_pos c] at h
      cases h
      exact br_t c hp
    · rw [if_neg c] at h
      by_cases d : ps_in i = true
      · rw [if_pos d] at h
        by_cases e : f - 1 ≤ ps_rd t i.toNatClampNeg
        · rw [if_pos e] at h
          exact br_f c ⟨ps_inI d, br_t e ⟨ps_inI d, nm_r (ps_upd _ _ _ (ps_inL d)) (nm_e (ih _ _ h))⟩⟩
        · rw [if_neg e] at h
          cases h
          exact br_f c ⟨ps_inI d, br_f e ⟨ps_inI d, ps_inI d, nm_r (ps_upd _ _ _ (ps_inL d)) hp⟩⟩
      · rw [if_neg d] at h
        cases h
theorem ps_bn {f r : Int32} {a : Nat → Int32} {t t' : ps_Q} {post : Int32 → SY → Prop} (h : ps_b7 f 6 (f - 1) t = some (r, t')) (hp : post r (f, a, ps_rd t')) : wpY_bump post (f, a, ps_rd t) :=
  nm_e (e := f - 1) (P := fun x => ∃ n7 : Nat, wY_bump_7 post f n7 x a (ps_rd t)) ⟨6, ps_b7s hp _ _ _ h⟩
theorem ps_d12s {f i : Int32} {a : Nat → Int32} {t : ps_Q} {b : Bool} {post J : Int32 → Prop} (hJ : b = true → J (i + 1)) (hp : b = false → post 0) : ∀ (n : Nat) (j : Int32), ps_d12 i t n j = some b → wY_distinct_12 post J i f a (ps_rd t) n j := by
  intro n
  induction n with
  | zero => intro j h; exact absurd h (by simp [ps_d12])
  | succ n ih =>
    intro j h
    rw [ps_d12] at h
    by_cases c : i ≤ j
    · rw [if_pos c] at h
      cases h
      exact br_t c (nm_e (hJ rfl))
    · rw [if_neg c] at h
      by_cases d : (ps_in i && ps_in j) = true
      · rw [if_pos d] at h
        obtain ⟨d1, d2⟩ := ps_and d
        by_cases e : ps_rd t i.toNatClampNeg = ps_rd t j.toNatClampNeg
        · rw [if_pos e] at h
          cases h
          exact br_f c ⟨ps_inI d1, ps_inI d2, br_t e (hp rfl)⟩
        · rw [if_neg e] at h
          exact br_f c ⟨ps_inI d1, ps_inI d2, br_f e (nm_e (ih _ h))⟩
      · rw [if_neg d] at h
        cases h
theorem ps_d2s {f r : Int32} {a : Nat → Int32} {t : ps_Q} {post : Int32 → Prop} (hp : post r) : ∀ (n : Nat) (i : Int32), ps_d2 f t n i = some r → wY_distinct_2 post f a (ps_rd t) n i := by
  intro n
  induction n with
  | zero => intro i h; exact absurd h (by simp [ps_d2])
  | succ n ih =>
    intro i h
    rw [ps_d2] at h
    by_cases c : f ≤ i
    · rw [if_pos c] at h
      cases h
      exact br_t c hp
    · rw [if_neg c] at h
      by_cases d : ps_d12 i t 5 0 = some true
      · rw [if_pos d] at h
        exact br_f c ⟨5, ps_d12s (fun _ => ih _ h) (fun z => nomatch z) _ _ d⟩
      · rw [if_neg d] at h
        by_cases e : ps_d12 i t 5 0 = some false
        · rw [if_pos e] at h
          cases h
          exact br_f c ⟨5, ps_d12s (fun z => nomatch z) (fun _ => hp) _ _ e⟩
        · rw [if_neg e] at h
          cases h
theorem ps_dn {f r : Int32} {a : Nat → Int32} {t : ps_Q} {post : Int32 → Prop} (h : ps_d2 f t 6 0 = some r) (hp : post r) : wpY_distinct post (f, a, ps_rd t) :=
  ⟨6, ps_d2s hp _ _ h⟩
theorem ps_y44s {f : Int32} {a' t : ps_Q} {post : Int32 → SY → Prop} (hp : post 0 (f, ps_rd a', ps_rd t)) : ∀ (n : Nat) (i : Int32) (a : ps_Q), ps_cp f t n i a = some a' → wY_next_44 post f n i (ps_rd a) (ps_rd t) := by
  intro n
  induction n with
  | zero => intro i a h; exact absurd h (by simp [ps_cp])
  | succ n ih =>
    intro i a h
    rw [ps_cp] at h
    by_cases c : f ≤ i
    · rw [if_pos c] at h
      cases h
      exact br_t c hp
    · rw [if_neg c] at h
      by_cases d : ps_in i = true
      · rw [if_pos d] at h
        exact br_f c ⟨ps_inI d, ps_inI d, nm_r (ps_upd _ _ _ (ps_inL d)) (nm_e (ih _ _ h))⟩
      · rw [if_neg d] at h
        cases h
theorem ps_y28s {f r : Int32} {a' t' : ps_Q} {post : Int32 → SY → Prop} (hp : post r (f, ps_rd a', ps_rd t')) : ∀ (n : Nat) (a t : ps_Q), ps_y28 f n a t = some (r, a', t') → wY_next_28 post n f (ps_rd a) (ps_rd t) := by
  intro n
  induction n with
  | zero => intro a t h; exact absurd h (by simp [ps_y28])
  | succ n ih =>
    intro a t h
    rw [ps_y28] at h
    rw [wY_next_28]
    match hb : ps_b7 f 6 (f - 1) t with
    | none => rw [hb] at h; cases h
    | some (rb, tb) =>
      rw [hb] at h
      dsimp only at h
      refine ps_bn hb ?_
      dsimp only
      by_cases c : rb = 0
      · rw [if_pos c] at h
        cases h
        exact br_t c hp
      · rw [if_neg c] at h
        refine br_f c ?_
        match hd : ps_d2 f tb 6 0 with
        | none => rw [hd] at h; cases h
        | some rd =>
          rw [hd] at h
          dsimp only at h
          refine ps_dn hd ?_
          by_cases e : rd = 0
          · rw [if_pos e] at h
            exact br_t e (ih _ _ h)
          · rw [if_neg e] at h
            match hc : ps_cp f tb 6 0 a with
            | none => rw [hc] at h; cases h
            | some ac =>
              rw [hc] at h
              cases h
              exact br_f e ⟨6, ps_y44s hp _ _ _ hc⟩
theorem ps_y2s {f : Int32} {a t' : ps_Q} {post : Int32 → SY → Prop} (hp : ∃ n28 : Nat, wY_next_28 post n28 f (ps_rd a) (ps_rd t')) : ∀ (n : Nat) (i : Int32) (t : ps_Q), ps_cp f a n i t = some t' → wY_next_2 post f n i (ps_rd a) (ps_rd t) := by
  intro n
  induction n with
  | zero => intro i t h; exact absurd h (by simp [ps_cp])
  | succ n ih =>
    intro i t h
    rw [ps_cp] at h
    by_cases c : f ≤ i
    · rw [if_pos c] at h
      cases h
      exact br_t c hp
    · rw [if_neg c] at h
      by_cases d : ps_in i = true
      · rw [if_pos d] at h
        exact br_f c ⟨ps_inI d, ps_inI d, nm_r (ps_upd _ _ _ (ps_inL d)) (nm_e (ih _ _ h))⟩
      · rw [if_neg d] at h
        cases h
theorem ps_yn {f r : Int32} {a t t1 a' t' : ps_Q} {post : Int32 → SY → Prop} (h1 : ps_cp f a 6 0 t = some t1) (h2 : ps_y28 f 40 a t1 = some (r, a', t')) (hp : post r (f, ps_rd a', ps_rd t')) : wpY_next post (f, ps_rd a, ps_rd t) :=
  ⟨6, ps_y2s ⟨40, ps_y28s hp _ _ _ h2⟩ _ _ _ h1⟩
/-! the three writing loops 0, 1, .. -/
theorem ps_i33s {m f : Int32} {a' : ps_Q} {post : SX → Prop} (hp : post (f, ps_rd a')) : ∀ (n : Nat) (i : Int32) (a : ps_Q), ps_rs m n i a = some a' → wX_init_33 post m f n i (ps_rd a) := by
  intro n
  induction n with
  | zero => intro i a h; exact absurd h (by simp [ps_rs])
  | succ n ih =>
    intro i a h
    rw [ps_rs] at h
    by_cases c : m ≤ i
    · rw [if_pos c] at h
      cases h
      exact br_t c hp
    · rw [if_neg c] at h
      by_cases d : ps_in i = true
      · rw [if_pos d] at h
        exact br_f c ⟨ps_inI d, nm_r (ps_upd _ _ _ (ps_inL d)) (nm_e (ih _ _ h))⟩
      · rw [if_neg d] at h
        cases h
theorem ps_xr2s {f : Int32} {a' : ps_Q} {post : SX → Prop} (hp : post (f, ps_rd a')) : ∀ (n : Nat) (i : Int32) (a : ps_Q), ps_rs f n i a = some a' → wX_reset_2 post f n i (ps_rd a) := by
  intro n
  induction n with
  | zero => intro i a h; exact absurd h (by simp [ps_rs])
  | succ n ih =>
    intro i a h
    rw [ps_rs] at h
    by_cases c : f ≤ i
    · rw [if_pos c] at h
      cases h
      exact br_t c hp
    · rw [if_neg c] at h
      by_cases d : ps_in i = true
      · rw [if_pos d] at h
        exact br_f c ⟨ps_inI d, nm_r (ps_upd _ _ _ (ps_inL d)) (nm_e (ih _ _ h))⟩
      · rw [if_neg d] at h
        cases h
theorem ps_yr2s {f : Int32} {t : Nat → Int32} {a' : ps_Q} {post : SY → Prop} (hp : post (f, ps_rd a', t)) : ∀ (n : Nat) (i : Int32) (a : ps_Q), ps_rs f n i a = some a' → wY_reset_2 post f n i (ps_rd a) t := by
  intro n
  induction n with
  | zero => intro i a h; exact absurd h (by simp [ps_rs])
  | succ n ih =>
    intro i a h
    rw [ps_rs] at h
    by_cases c : f ≤ i
    · rw [if_pos c] at h
      cases h
      exact br_t c hp
    · rw [if_neg c] at h
      by_cases d : ps_in i = true
      · rw [if_pos d] at h
        exact br_f c ⟨ps_inI d, nm_r (ps_upd _ _ _ (ps_inL d)) (nm_e (ih _ _ h))⟩
      · rw [if_neg d] at h
        cases h
theorem ps_xr {f : Int32} {a a' : ps_Q} {post : SX → Prop} (h : ps_rs f 6 0 a = some a') (hp : post (f, ps_rd a')) : wpX_reset post (f, ps_rd a) := ⟨6, ps_xr2s hp _ _ _ h⟩
theorem ps_yr {f : Int32} {t : Nat → Int32} {a a' : ps_Q} {post : SY → Prop} (h : ps_rs f 6 0 a = some a') (hp : post (f, ps_rd a', t)) : wpY_reset post (f, ps_rd a, t) := ⟨6, ps_yr2s hp _ _ _ h⟩
end
section
/-- the states: size, arrangement, zeros behind it (34 of them; printed by a short program over itertools.permutations) -/
def ps_L : List (Int32 × ps_Q) := [
  (0, 0, 0, 0, 0), (1, 0, 0, 0, 0), (2, 0, 1, 0, 0), (2, 1, 0, 0, 0), (3, 0, 1, 2, 0), (3, 0, 2, 1, 0),
  (3, 1, 0, 2, 0), (3, 1, 2, 0, 0), (3, 2, 0, 1, 0), (3, 2, 1, 0, 0), (4, 0, 1, 2, 3), (4, 0, 1, 3, 2),
  (4, 0, 2, 1, 3), (4, 0, 2, 3, 1), (4, 0, 3, 1, 2), (4, 0, 3, 2, 1), (4, 1, 0, 2, 3), (4, 1, 0, 3, 2),
  (4, 1, 2, 0, 3), (4, 1, 2, 3, 0), (4, 1, 3, 0, 2), (4, 1, 3, 2, 0), (4, 2, 0, 1, 3), (4, 2, 0, 3, 1),
  (4, 2, 1, 0, 3), (4, 2, 1, 3, 0), (4, 2, 3, 0, 1), (4, 2, 3, 1, 0), (4, 3, 0, 1, 2), (4, 3, 0, 2, 1),
  (4, 3, 1, 0, 2), (4, 3, 1, 2, 0), (4, 3, 2, 0, 1), (4, 3, 2, 1, 0)]
/-- zeros from cell f on -/
def ps_tl (f : Int32) (t : ps_Q) : Prop := (f ≤ 0 → t.1 = 0) ∧ (f ≤ 1 → t.2.1 = 0) ∧ (f ≤ 2 → t.2.2.1 = 0) ∧ (f ≤ 3 → t.2.2.2 = 0)
def ps_tb (f : Int32) (t : ps_Q) : Bool := (!decide (f ≤ 0) || decide (t.1 = 0)) && (!decide (f ≤ 1) || decide (t.2.1 = 0)) && (!decide (f ≤ 2) || decide (t.2.2.1 = 0)) && (!decide (f ≤ 3) || decide (t.2.2.2 = 0))
theorem ps_tbI {f : Int32} {t : ps_Q} (h : ps_tb f t = true) : ps_tl f t := by
  simp only [ps_tb, Bool.and_eq_true, Bool.or_eq_true, Bool.not_eq_true', decide_eq_true_eq, decide_eq_false_iff_not] at h
  obtain ⟨⟨⟨h0, h1⟩, h2⟩, h3⟩ := h
  exact ⟨fun z => h0.resolve_left (fun y => y z), fun z => h1.resolve_left (fun y => y z), fun z => h2.resolve_left (fun y => y z), fun z => h3.resolve_left (fun y => y z)⟩
/-- one state: both sides' next reckoned, with one answer, one arrangement, a state of the table again -/
def ps_ok (p : Int32 × ps_Q) : Bool := match ps_x7 p.1 p.2 5 (p.1 - 2), ps_y28 p.1 40 p.2 p.2 with
  | some (r, q), some (r', q', t) => decide (r' = r) && decide (q' = q) && decide ((p.1, q) ∈ ps_L) && ps_tb p.1 t
  | _, _ => false
theorem ps_allok : ps_L.all ps_ok = true := by decide +kernel
def ps_okr (p : Int32 × ps_Q) : Bool := match ps_rs p.1 6 0 p.2 with
  | some q => decide ((p.1, q) ∈ ps_L)
  | none => false
theorem ps_allr : ps_L.all ps_okr = true := by decide +kernel
def ps_ok5 (p : Int32 × ps_Q) : Bool := (decide (p.1 = 0) || decide (p.1 = 1) || decide (p.1 = 2) || decide (p.1 = 3) || decide (p.1 = 4)) && ps_tb p.1 p.2
theorem ps_all5 : ps_L.all ps_ok5 = true := by decide +kernel
def ps_oks (m : Int32) : Bool := match ps_rs m 6 0 (0, 0, 0, 0) with
  | some q => decide ((m, q) ∈ ps_L)
  | none => false
theorem ps_alls : [(0 : Int32), 1, 2, 3, 4].all ps_oks = true := by decide +kernel
theorem ps_next {f : Int32} {q : ps_Q} (hm : (f, q) ∈ ps_L) : ∃ (r : Int32) (q' t' : ps_Q), ps_x7 f q 5 (f - 2) = some (r, q') ∧ ps_y28 f 40 q q = some (r, q', t') ∧ (f, q') ∈ ps_L ∧ ps_tl f t' := by
  have h := List.all_eq_true.mp ps_allok _ hm
  unfold ps_ok at h
  dsimp only at h
  match hx : ps_x7 f q 5 (f - 2), hy : ps_y28 f 40 q q with
  | none, _ => rw [hx] at h; cases h
  | some (r, q1), none => rw [hx, hy] at h; cases h
  | some (r, q1), some (r', q2, t) =>
    rw [hx, hy] at h
    simp only [Bool.and_eq_true, decide_eq_true_eq] at h
    obtain ⟨⟨⟨rfl, rfl⟩, hm'⟩, ht⟩ := h
    exact ⟨_, _, _, rfl, rfl, hm', ps_tbI ht⟩
theorem ps_reset {f : Int32} {q : ps_Q} (hm : (f, q) ∈ ps_L) : ∃ q' : ps_Q, ps_rs f 6 0 q = some q' ∧ (f, q') ∈ ps_L := by
  have h := List.all_eq_true.mp ps_allr _ hm
  unfold ps_okr at h
  dsimp only at h
  match hx : ps_rs f 6 0 q with
  | none => rw [hx] at h; cases h
  | some q1 =>
    rw [hx] at h
    exact ⟨_, rfl, of_decide_eq_true h⟩
theorem ps_five {f : Int32} {q : ps_Q} (hm : (f, q) ∈ ps_L) : (f = 0 ∨ f = 1 ∨ f = 2 ∨ f = 3 ∨ f = 4) ∧ ps_tl f q := by
  have h := List.all_eq_true.mp ps_all5 _ hm
  unfold ps_ok5 at h
  obtain ⟨h1, h2⟩ := ps_and h
  refine ⟨?_, ps_tbI h2⟩
  simp only [Bool.or_eq_true, decide_eq_true_eq] at h1
  rcases h1 with (((h | h) | h) | h) | h
  · exact Or.inl h
  · exact Or.inr (Or.inl h)
  · exact Or.inr (Or.inr (Or.inl h))
  · exact Or.inr (Or.inr (Or.inr (Or.inl h)))
  · exact Or.inr (Or.inr (Or.inr (Or.inr h)))
theorem ps_init {m : Int32} (hm : m ∈ [(0 : Int32), 1, 2, 3, 4]) : ∃ q' : ps_Q, ps_rs m 6 0 (0, 0, 0, 0) = some q' ∧ (m, q') ∈ ps_L := by
  have h := List.all_eq_true.mp ps_alls _ hm
  unfold ps_oks at h
  match hx : ps_rs m 6 0 (0, 0, 0, 0) with
  | none => rw [hx] at h; cases h
  | some q1 =>
    rw [hx] at h
    exact ⟨_, rfl, of_decide_eq_true h⟩
theorem ps_cpS {f i : Int32} {s d : ps_Q} {n : Nat} (h : ¬ f ≤ i) (hi : ps_in i = true) : ps_cp f s (n + 1) i d = ps_cp f s n (i + 1) (ps_wr d i.toNatClampNeg (ps_rd s i.toNatClampNeg)) := by
  rw [ps_cp, if_neg h, if_pos hi]
theorem ps_cpE {f i : Int32} {s d : ps_Q} {n : Nat} (h : f ≤ i) : ps_cp f s (n + 1) i d = some d := by
  rw [ps_cp, if_pos h]
theorem ps_cp1 {f : Int32} {s d r : ps_Q} {n j : Nat} (i i' : Int32) (hj : i.toNatClampNeg = j) (h : ¬ f ≤ i) (hi : ps_in i = true) (hn : i + 1 = i') (H : ps_cp f s n i' (ps_wr d j (ps_rd s j)) = some r) : ps_cp f s (n + 1) i d = some r := by
  rw [ps_cpS h hi, hn, hj]; exact H
/-- the copy of a, over any t that is zero behind the size, is a -/
theorem ps_cpy {f : Int32} {a t : ps_Q} (h5 : f = 0 ∨ f = 1 ∨ f = 2 ∨ f = 3 ∨ f = 4) (ha : ps_tl f a) (ht : ps_tl f t) : ps_cp f a 6 0 t = some a := by
  obtain ⟨a0, a1, a2, a3⟩ := a
  obtain ⟨t0, t1, t2, t3⟩ := t
  obtain ⟨ha0, ha1, ha2, ha3⟩ := ha
  obtain ⟨ht0, ht1, ht2, ht3⟩ := ht
  dsimp only at ha0 ha1 ha2 ha3 ht0 ht1 ht2 ht3
  rcases h5 with rfl | rfl | rfl | rfl | rfl
  · cases ha0 (by decide); cases ha1 (by decide); cases ha2 (by decide); cases ha3 (by decide)
    cases ht0 (by decide); cases ht1 (by decide); cases ht2 (by decide); cases ht3 (by decide)
    exact ps_cpE (by decide)
  · cases ha1 (by decide); cases ha2 (by decide); cases ha3 (by decide)
    cases ht1 (by decide); cases ht2 (by decide); cases ht3 (by decide)
    exact ps_cp1 (j := 0) 0 1 (by decide) (by decide) (by decide) (by decide) (ps_cpE (by decide))
  · cases ha2 (by decide); cases ha3 (by decide)
    cases ht2 (by decide); cases ht3 (by decide)
    exact ps_cp1 (j := 0) 0 1 (by decide) (by decide) (by decide) (by decide) (ps_cp1 (j := 1) 1 2 (by decide) (by decide) (by decide) (by decide) (ps_cpE (by decide)))
  · cases ha3 (by decide)
    cases ht3 (by decide)
    exact ps_cp1 (j := 0) 0 1 (by decide) (by decide) (by decide) (by decide) (ps_cp1 (j := 1) 1 2 (by decide) (by decide) (by decide) (by decide) (ps_cp1 (j := 2) 2 3 (by decide) (by decide) (by decide) (by decide) (ps_cpE (by decide))))
  · exact ps_cp1 (j := 0) 0 1 (by decide) (by decide) (by decide) (by decide) (ps_cp1 (j := 1) 1 2 (by decide) (by decide) (by decide) (by decide) (ps_cp1 (j := 2) 2 3 (by decide) (by decide) (by decide) (by decide) (ps_cp1 (j := 3) 3 4 (by decide) (by decide) (by decide) (by decide) (ps_cpE (by decide)))))
end
section
/-- one size, one arrangement (of the table) on both sides; the reference's scratch is zero behind the size -/
def i_Rel (k : Nat) (u : SX) (v : SY) : Prop := ∃ (f : Int32) (q t : ps_Q), (f, q) ∈ ps_L ∧ ps_tl f t ∧ u = (f, ps_rd q) ∧ v = (f, ps_rd q, ps_rd t)
theorem i_up {k : Nat} {u : SX} {v : SY} (h : i_Rel k u v) : i_Rel (k + 2) u v := h
theorem ps_i33z {m f : Int32} {a' : ps_Q} {post : SX → Prop} (h : ps_rs m 6 0 (0, 0, 0, 0) = some a') (hp : post (f, ps_rd a')) : ∃ n33 : Nat, wX_init_33 post m f n33 0 (fun _ => 0) := by
  refine ⟨6, ?_⟩
  rw [ps_zero]
  exact ps_i33s hp _ _ _ h
theorem ps_y37z {m : Int32} {a' : ps_Q} {post : SY → Prop} (h : ps_rs m 6 0 (0, 0, 0, 0) = some a') (hp : post (m, ps_rd a', ps_rd (0, 0, 0, 0))) : wY_init_37 post m 0 (fun _ => 0) (fun _ => 0) := by
  unfold wY_init_37
  rw [ps_zero]
  exact ps_yr h hp
theorem ps_rel0 {m : Int32} {q : ps_Q} (h : (m, q) ∈ ps_L) : i_Rel 1 (m, ps_rd q) (m, ps_rd q, ps_rd (0, 0, 0, 0)) :=
  ⟨m, q, (0, 0, 0, 0), h, ⟨fun _ => rfl, fun _ => rfl, fun _ => rfl, fun _ => rfl⟩, rfl, rfl⟩
theorem ps_mem5 {x : Int32} (h0 : 0 ≤ x) (h4 : x ≤ 4) : x ∈ [(0 : Int32), 1, 2, 3, 4] := by
  obtain ⟨j, hj, rfl⟩ := nI_of2 (M := 4) (n := 4) (by decide) (Int32.not_lt.mpr h0) h4
  have hj' : j = 0 ∨ j = 1 ∨ j = 2 ∨ j = 3 ∨ j = 4 := by omega
  rcases hj' with rfl | rfl | rfl | rfl | rfl <;> decide +kernel
theorem i_vc0 (k0 : Int32) : wpX_init (fun u => wpY_init (fun v => i_Rel 1 u v) k0) k0 := by
  by_cases h0 : 0 ≤ k0
  · by_cases h4 : k0 ≤ 4
    · obtain ⟨q, h, hm⟩ := ps_init (ps_mem5 h0 h4)
      refine br_t h0 (br_t h4 (ps_i33z h ?_))
      exact br_t h0 (br_t h4 (ps_y37z h (ps_rel0 hm)))
    · obtain ⟨q, h, hm⟩ := ps_init (m := 4) (by decide +kernel)
      refine br_t h0 (br_f h4 (ps_i33z h ?_))
      exact br_t h0 (br_f h4 (ps_y37z h (ps_rel0 hm)))
  · obtain ⟨q, h, hm⟩ := ps_init (m := 0) (by decide +kernel)
    refine br_f h0 (br_t (by decide) (ps_i33z h ?_))
    exact br_f h0 (ps_y37z h (ps_rel0 hm))
theorem i_vc_size {k : Nat} {u : SX} {v : SY} (I : i_Rel k u v) (hk : k + 2 ≤ 1025) : wpX_size (fun r => wpY_size (fun r' => r' = r ∧ i_Rel (k + 2) u v) v) u := by
  obtain ⟨f, q, t, hm, ht, rfl, rfl⟩ := I
  exact And.intro rfl ⟨f, q, t, hm, ht, rfl, rfl⟩
theorem i_vc_next {k : Nat} {u : SX} {v : SY} (I : i_Rel k u v) (hk : k + 2 ≤ 1025) : wpX_next (fun r u' => wpY_next (fun r' v' => r' = r ∧ i_Rel (k + 2) u' v') v) u := by
  obtain ⟨f, q, t, hm, ht, rfl, rfl⟩ := I
  obtain ⟨r, q', t', hx, hy, hm', ht'⟩ := ps_next hm
  obtain ⟨h5, hq⟩ := ps_five hm
  exact ps_xn hx (ps_yn (ps_cpy h5 hq ht) hy ⟨rfl, f, q', t', hm', ht', rfl, rfl⟩)
theorem i_vc_get {k : Nat} {u : SX} {v : SY} (I : i_Rel k u v) (hk : k + 2 ≤ 1025) (v1 : Int32) : wpX_get (fun r => wpY_get (fun r' => r' = r ∧ i_Rel (k + 2) u v) v v1) u v1 := by
  obtain ⟨f, q, t, hm, ht, rfl, rfl⟩ := I
  have R : i_Rel (k + 2) (f, ps_rd q) (f, ps_rd q, ps_rd t) := ⟨f, q, t, hm, ht, rfl, rfl⟩
  by_cases h0 : v1 < 0
  · exact br_t h0 (br_t h0 ⟨rfl, R⟩)
  · by_cases h1 : v1 < f
    · have hf : f ≤ 4 := by
        rcases (ps_five hm).1 with rfl | rfl | rfl | rfl | rfl <;> decide
      have hv : vp_in v1 4 := by
        obtain ⟨j, hj, rfl⟩ := nI_of h0
        have h4 : nI j < nI 4 := Int32.lt_of_lt_of_le h1 hf
        rw [nI_ltI hj (by omega)] at h4
        exact vp_in_nI h4 (by omega)
      exact br_f h0 (br_t h1 ⟨hv, br_f h0 (br_t h1 ⟨hv, rfl, R⟩)⟩)
    · exact br_f h0 (br_f h1 (br_f h0 (br_f h1 ⟨rfl, R⟩)))
theorem i_vc_reset {k : Nat} {u : SX} {v : SY} (I : i_Rel k u v) (hk : k + 2 ≤ 1025) : wpX_reset (fun u' => wpY_reset (fun v' => i_Rel (k + 2) u' v') v) u := by
  obtain ⟨f, q, t, hm, ht, rfl, rfl⟩ := I
  obtain ⟨q', h, hm'⟩ := ps_reset hm
  exact ps_xr h (ps_yr h ⟨f, q', t, hm', ht, rfl, rfl⟩)
end
