section
/-- a with h put in at place p; the places p .. q - 1 of a have moved up by one -/
def km_sh (a : Nat → Int64) (p : Nat) (h : Int64) (q : Nat) : Nat → Int64 := fun i => if i < p then a i else if i = p then h else if i ≤ q then a (i - 1) else a i
/-- the places j .. q - 1 of a have moved up by one; place j is free to be written -/
def km_ho (a : Nat → Int64) (j q : Nat) : Nat → Int64 := fun i => if j < i ∧ i ≤ q then a (i - 1) else a i
/-- the first m places rise strictly -/
def km_st (a : Nat → Int64) (m : Nat) : Prop := ∀ i j : Nat, i < j → j < m → a i < a j

theorem km_lt_le {x y : Int64} (h : x < y) : x ≤ y := by
  rw [Int64.lt_iff_toInt_lt] at h
  rw [Int64.le_iff_toInt_le]
  omega
theorem km_lt_nle {x y : Int64} (h : x < y) : ¬ y ≤ x := by
  rw [Int64.lt_iff_toInt_lt] at h
  rw [Int64.le_iff_toInt_le]
  omega
theorem km_lt_ne {x y : Int64} (h : x < y) : ¬ x = y := by
  intro e
  rw [e, Int64.lt_iff_toInt_lt] at h
  omega
theorem km_lt_ne' {x y : Int64} (h : x < y) : ¬ y = x := fun e => km_lt_ne h e.symm
theorem km_nle {x y : Int64} (h : ¬ x ≤ y) : y < x := by
  rw [Int64.le_iff_toInt_le] at h
  rw [Int64.lt_iff_toInt_lt]
  omega
theorem km_lt_tr {x y z : Int64} (h : x < y) (g : y < z) : x < z := by
  rw [Int64.lt_iff_toInt_lt] at *
  omega
theorem km_le_ne {x y : Int64} (h : x ≤ y) (g : ¬ y = x) : x < y := by
  rw [← Int64.toInt_inj] at g
  rw [Int64.le_iff_toInt_le] at h
  rw [Int64.lt_iff_toInt_lt]
  omega

theorem km_ho0 (a : Nat → Int64) (q : Nat) : km_ho a q q = a := by
  funext i
  unfold km_ho
  rw [if_neg (by omega)]
theorem km_hor {a : Nat → Int64} {j q : Nat} : km_ho a j q (j - 1) = a (j - 1) := by
  unfold km_ho
  rw [if_neg (by omega)]
theorem km_ho1 {a : Nat → Int64} {j q : Nat} (h0 : 0 < j) (hq : j ≤ q) : vp_updL (km_ho a j q) j (a (j - 1)) = km_ho a (j - 1) q := by
  funext i
  unfold vp_updL km_ho
  by_cases e : i = j
  · rw [if_pos e, if_pos (by omega), e]
  · rw [if_neg e]
    by_cases c : j < i ∧ i ≤ q
    · rw [if_pos c, if_pos (by omega)]
    · rw [if_neg c, if_neg (by omega)]
theorem km_fin {a : Nat → Int64} {h : Int64} {p q : Nat} : vp_updL (km_ho a p q) p h = km_sh a p h q := by
  funext i
  unfold vp_updL km_ho km_sh
  by_cases e : i = p
  · rw [if_pos e, if_neg (by omega), if_pos e]
  · rw [if_neg e]
    by_cases c : i < p
    · rw [if_neg (by omega), if_pos c]
    · rw [if_neg c, if_neg e]
      by_cases g : i ≤ q
      · rw [if_pos (by omega), if_pos g]
      · rw [if_neg (by omega), if_neg g]
theorem km_shk {a : Nat → Int64} {h : Int64} {p k : Nat} (pk : p < k) : km_sh a p h (k - 1) k = a k := by
  unfold km_sh
  rw [if_neg (by omega), if_neg (by omega), if_neg (by omega)]
theorem km_sh1 {a : Nat → Int64} {h : Int64} {p k : Nat} (pk : p < k) : vp_updL (km_sh a p h (k - 1)) k (a (k - 1)) = km_sh a p h k := by
  funext i
  unfold vp_updL km_sh
  by_cases e : i = k
  · rw [if_pos e, if_neg (by omega), if_neg (by omega), if_pos (by omega), e]
  · rw [if_neg e]
    by_cases c : i < p
    · rw [if_pos c, if_pos c]
    · rw [if_neg c, if_neg c]
      by_cases f : i = p
      · rw [if_pos f, if_pos f]
      · rw [if_neg f, if_neg f]
        by_cases g : i ≤ k
        · rw [if_pos g, if_pos (by omega)]
        · rw [if_neg g, if_neg (by omega)]
theorem km_sh0 {a : Nat → Int64} {h : Int64} {p : Nat} : vp_updL a p h = km_sh a p h p := by
  have e : vp_updL (km_ho a p p) p h = km_sh a p h p := km_fin
  rw [km_ho0] at e
  exact e

/-- where h stands among the first m places -/
theorem km_pos (a : Nat → Int64) (h : Int64) : ∀ m : Nat, km_st a m → ∃ p : Nat, p ≤ m ∧ (∀ i, i < p → a i < h) ∧ (∀ i, p ≤ i → i < m → h ≤ a i) := by
  intro m
  induction m with
  | zero => exact fun _ => ⟨0, Nat.le_refl _, fun i hi => absurd hi (by omega), fun i _ hi => absurd hi (by omega)⟩
  | succ m ih =>
    intro st
    obtain ⟨p, hp, lo, hi⟩ := ih (fun i j ij jm => st i j ij (by omega))
    by_cases c : a m < h
    · refine ⟨m + 1, Nat.le_refl _, fun i him => ?_, fun i h1 h2 => absurd h1 (by omega)⟩
      by_cases e : i = m
      · rw [e]; exact c
      · exact km_lt_tr (st i m (by omega) (by omega)) c
    · refine ⟨p, by omega, lo, fun i h1 h2 => ?_⟩
      by_cases e : i = m
      · rw [e]; exact Int64.not_lt.mp c
      · exact hi i h1 (by omega)

/-- putting h in keeps the order -/
theorem km_st_sh {a : Nat → Int64} {h : Int64} {m p q : Nat} (st : km_st a m) (pq : p ≤ q) (qm : q ≤ m)
    (lo : ∀ i, i < p → a i < h) (hi : ∀ i, p ≤ i → i < m → h < a i) : km_st (km_sh a p h q) (q + 1) := by
  intro i j ij jq
  unfold km_sh
  by_cases ip : i < p
  · rw [if_pos ip]
    by_cases jp : j < p
    · rw [if_pos jp]; exact st i j ij (by omega)
    · rw [if_neg jp]
      by_cases je : j = p
      · rw [if_pos je]; exact lo i ip
      · rw [if_neg je, if_pos (by omega)]; exact st i (j - 1) (by omega) (by omega)
  · rw [if_neg ip, if_neg (by omega : ¬ j < p), if_neg (by omega : ¬ j = p), if_pos (by omega : j ≤ q)]
    by_cases ie : i = p
    · rw [if_pos ie]; exact hi (j - 1) (by omega) (by omega)
    · rw [if_neg ie, if_pos (by omega)]; exact st (i - 1) (j - 1) (by omega) (by omega)
end
section
theorem km_4t {m : Nat} (h : m = 4) : (4 : Int32) ≤ nI m := by
  rw [h]; exact nI_le (a := 4) (b := 4) (by decide) (by decide)
theorem km_4f {m : Nat} (h : m < 4) : ¬ (4 : Int32) ≤ nI m := nI_ge (b := 4) h (by decide)
theorem km_pr {j : Nat} (h : 0 < j) : nI j - 1 = nI (j - 1) := by
  obtain ⟨i, rfl⟩ : ∃ i, j = i + 1 := ⟨j - 1, by omega⟩
  exact nI_pred i

/-- X's moving loop: from the hole at j down to p, then h is written there -/
theorem km_x95 {post : Int32 → SX → Prop} {h : Int64} {f : Int32} {a : Nat → Int64} {p q : Nat} (hq : q ≤ 3)
    (lo : ∀ i, i < p → a i < h) (hi : ∀ i, p ≤ i → i < q → h < a i) (K : post 1 (f, km_sh a p h q)) :
    ∀ n j : Nat, p ≤ j → j ≤ q → j - p < n → wX_add_95 post h f n (nI j) (km_ho a j q) := by
  intro n
  induction n with
  | zero => intro j _ _ hn; exact absurd hn (by omega)
  | succ n ih =>
    intro j pj jq hn
    have hin : vp_in (nI j) 4 := vp_in_nI (by omega) (by omega)
    have cl : (nI j).toNatClampNeg = j := nI_clamp (by omega)
    by_cases j0 : j = 0
    · have c : nI j ≤ 0 := by rw [j0]; exact nI_le (a := 0) (b := 0) (by decide) (by decide)
      have pe : p = j := by omega
      have hw : vp_updL (km_ho a j q) (nI j).toNatClampNeg h = km_sh a p h q := by rw [cl, pe]; exact km_fin
      exact br_t c ⟨hin, nm_r hw K⟩
    · have c : ¬ nI j ≤ 0 := nI_nle (by omega) (by omega)
      have e1 : nI j - 1 = nI (j - 1) := km_pr (by omega)
      have i1 : vp_in (nI j - 1) 4 := by rw [e1]; exact vp_in_nI (by omega) (by omega)
      have r : km_ho a j q (nI j - 1).toNatClampNeg = a (j - 1) := by rw [e1, nI_clamp (by omega)]; exact km_hor
      by_cases pe : p = j
      · have c2 : km_ho a j q (nI j - 1).toNatClampNeg ≤ h := by rw [r]; exact km_lt_le (lo _ (by omega))
        have hw : vp_updL (km_ho a j q) (nI j).toNatClampNeg h = km_sh a p h q := by rw [cl, pe]; exact km_fin
        exact br_f c ⟨i1, br_t c2 ⟨hin, nm_r hw K⟩⟩
      · have c2 : ¬ km_ho a j q (nI j - 1).toNatClampNeg ≤ h := by rw [r]; exact km_lt_nle (hi _ (by omega) (by omega))
        have hw : vp_updL (km_ho a j q) (nI j).toNatClampNeg (km_ho a j q (nI j - 1).toNatClampNeg) = km_ho a (j - 1) q := by
          rw [r, cl]; exact km_ho1 (by omega) jq
        exact br_f c ⟨i1, br_f c2 ⟨i1, hin, nm_r hw (nm_r e1 (ih (j - 1) (by omega) (by omega) (by omega)))⟩⟩

/-- X's scan, h found at p -/
theorem km_x23f {post : Int32 → SX → Prop} {h : Int64} {a : Nat → Int64} {p m : Nat} (hm : m ≤ 4) (pm : p < m)
    (lo : ∀ i, i < p → a i < h) (hp : a p = h) (K : post 0 (nI m, a)) :
    ∀ n i : Nat, i ≤ p → p - i < n → wX_add_23 post h (nI m) a n (nI i) := by
  intro n
  induction n with
  | zero => intro i _ hn; exact absurd hn (by omega)
  | succ n ih =>
    intro i ip hn
    have c : ¬ nI m ≤ nI i := nI_ge (by omega) (by omega)
    have hin : vp_in (nI i) 4 := vp_in_nI (by omega) (by omega)
    have cl : (nI i).toNatClampNeg = i := nI_clamp (by omega)
    by_cases e : i = p
    · have c2 : a (nI i).toNatClampNeg = h := by rw [cl, e]; exact hp
      exact br_f c ⟨hin, br_t c2 K⟩
    · have c2 : ¬ a (nI i).toNatClampNeg = h := by rw [cl]; exact km_lt_ne (lo _ (by omega))
      exact br_f c ⟨hin, br_f c2 (nm_r (nI_1 i) (ih (i + 1) (by omega) (by omega)))⟩

/-- X's scan, h not found -/
theorem km_x23n {post : Int32 → SX → Prop} {h : Int64} {a : Nat → Int64} {m : Nat} (hm : m ≤ 4)
    (ne : ∀ i, i < m → ¬ a i = h)
    (K4 : m = 4 → h ≤ a 3 → ∃ n95 : Nat, wX_add_95 post h (nI m) n95 3 a)
    (K0 : m = 4 → ¬ h ≤ a 3 → post 0 (nI m, a))
    (K : m < 4 → ∃ n95 : Nat, wX_add_95 post h (nI (m + 1)) n95 (nI m) a) :
    ∀ n i : Nat, i ≤ m → m - i < n → wX_add_23 post h (nI m) a n (nI i) := by
  intro n
  induction n with
  | zero => intro i _ hn; exact absurd hn (by omega)
  | succ n ih =>
    intro i im hn
    by_cases e : i = m
    · have c : nI m ≤ nI i := nI_le (by omega) (by omega)
      by_cases m4 : m = 4
      · exact br_t c (br_t (km_4t m4) (br_c (K4 m4) (K0 m4)))
      · have lt : m < 4 := by omega
        exact br_t c (br_f (km_4f lt) (nm_r (nI_1 m) (K lt)))
    · have c : ¬ nI m ≤ nI i := nI_ge (by omega) (by omega)
      have hin : vp_in (nI i) 4 := vp_in_nI (by omega) (by omega)
      have cl : (nI i).toNatClampNeg = i := nI_clamp (by omega)
      have c2 : ¬ a (nI i).toNatClampNeg = h := by rw [cl]; exact ne _ (by omega)
      exact br_f c ⟨hin, br_f c2 (nm_r (nI_1 i) (ih (i + 1) (by omega) (by omega)))⟩

/-- Y's loop behind the place of h: the carry is the place before -/
theorem km_y2 {post : Int32 → SY → Prop} {h : Int64} {a : Nat → Int64} {p m : Nat} (hm : m ≤ 4) (st : km_st a m)
    (hi : ∀ i, p ≤ i → i < m → h < a i)
    (K4 : m = 4 → post 1 (nI m, km_sh a p h 3)) (K : m < 4 → post 1 (nI (m + 1), km_sh a p h m)) :
    ∀ n k : Nat, p < k → k ≤ m → m - k < n → wY_add_26 post h (nI m) n (a (k - 1)) (nI k) (km_sh a p h (k - 1)) := by
  intro n
  induction n with
  | zero => intro k _ _ hn; exact absurd hn (by omega)
  | succ n ih =>
    intro k pk km hn
    by_cases e : k = m
    · have c : nI m ≤ nI k := nI_le (by omega) (by omega)
      by_cases m4 : m = 4
      · have c2 : ¬ a (k - 1) = h := km_lt_ne' (hi _ (by omega) (by omega))
        have e3 : k - 1 = 3 := by omega
        have P : post 1 (nI m, km_sh a p h (k - 1)) := by rw [e3]; exact K4 m4
        exact br_t c (br_t (km_4t m4) (br_f c2 P))
      · have lt : m < 4 := by omega
        have hin : vp_in (nI m) 4 := vp_in_nI (by omega) (by omega)
        have w : vp_updL (km_sh a p h (k - 1)) (nI m).toNatClampNeg (a (k - 1)) = km_sh a p h m := by
          rw [nI_clamp (by omega), ← e]; exact km_sh1 pk
        exact br_t c (br_f (km_4f lt) (nm_r (nI_1 m) ⟨hin, nm_r w (K lt)⟩))
    · have c : ¬ nI m ≤ nI k := nI_ge (by omega) (by omega)
      have hin : vp_in (nI k) 4 := vp_in_nI (by omega) (by omega)
      have cl : (nI k).toNatClampNeg = k := nI_clamp (by omega)
      have r : km_sh a p h (k - 1) (nI k).toNatClampNeg = a k := by rw [cl]; exact km_shk pk
      have l : a (k - 1) < a k := st _ _ (by omega) (by omega)
      have c2 : ¬ km_sh a p h (k - 1) (nI k).toNatClampNeg = a (k - 1) := by rw [r]; exact km_lt_ne' l
      have c3 : ¬ km_sh a p h (k - 1) (nI k).toNatClampNeg ≤ a (k - 1) := by rw [r]; exact km_lt_nle l
      have w : vp_updL (km_sh a p h (k - 1)) (nI k).toNatClampNeg (a (k - 1)) = km_sh a p h k := by rw [cl]; exact km_sh1 pk
      exact br_f c ⟨hin, br_f c2 ⟨hin, br_f c3 ⟨hin, nm_r r ⟨hin, nm_r w (nm_r (nI_1 k) (ih (k + 1) (by omega) (by omega) (by omega)))⟩⟩⟩⟩

/-- Y's loop up to the place of h, h found there -/
theorem km_y1f {post : Int32 → SY → Prop} {h : Int64} {a : Nat → Int64} {p m : Nat} (hm : m ≤ 4) (pm : p < m)
    (lo : ∀ i, i < p → a i < h) (hp : a p = h) (K : post 0 (nI m, a)) :
    ∀ n k : Nat, k ≤ p → p - k < n → wY_add_26 post h (nI m) n h (nI k) a := by
  intro n
  induction n with
  | zero => intro k _ hn; exact absurd hn (by omega)
  | succ n ih =>
    intro k kp hn
    have c : ¬ nI m ≤ nI k := nI_ge (by omega) (by omega)
    have hin : vp_in (nI k) 4 := vp_in_nI (by omega) (by omega)
    have cl : (nI k).toNatClampNeg = k := nI_clamp (by omega)
    by_cases e : k = p
    · have c2 : a (nI k).toNatClampNeg = h := by rw [cl, e]; exact hp
      exact br_f c ⟨hin, br_t c2 K⟩
    · have l : a k < h := lo _ (by omega)
      have c2 : ¬ a (nI k).toNatClampNeg = h := by rw [cl]; exact km_lt_ne l
      have c3 : a (nI k).toNatClampNeg ≤ h := by rw [cl]; exact km_lt_le l
      exact br_f c ⟨hin, br_f c2 ⟨hin, br_t c3 (nm_r (nI_1 k) (ih (k + 1) (by omega) (by omega)))⟩⟩

/-- Y's loop up to the place of h, h not found -/
theorem km_y1n {post : Int32 → SY → Prop} {h : Int64} {a : Nat → Int64} {p m : Nat} (hm : m ≤ 4) (pm : p ≤ m) (st : km_st a m)
    (lo : ∀ i, i < p → a i < h) (hi : ∀ i, p ≤ i → i < m → h < a i)
    (K0 : p = 4 → post 0 (nI m, a)) (K4 : m = 4 → p < 4 → post 1 (nI m, km_sh a p h 3)) (K : m < 4 → post 1 (nI (m + 1), km_sh a p h m)) :
    ∀ n k : Nat, k ≤ p → m - k < n → wY_add_26 post h (nI m) n h (nI k) a := by
  intro n
  induction n with
  | zero => intro k _ hn; exact absurd hn (by omega)
  | succ n ih =>
    intro k kp hn
    by_cases e : k = m
    · have c : nI m ≤ nI k := nI_le (by omega) (by omega)
      by_cases m4 : m = 4
      · exact br_t c (br_t (km_4t m4) (br_t rfl (K0 (by omega))))
      · have lt : m < 4 := by omega
        have pe : p = m := by omega
        have hin : vp_in (nI m) 4 := vp_in_nI (by omega) (by omega)
        have w : vp_updL a (nI m).toNatClampNeg h = km_sh a p h m := by
          rw [nI_clamp (by omega), pe]; exact km_sh0
        exact br_t c (br_f (km_4f lt) (nm_r (nI_1 m) ⟨hin, nm_r w (K lt)⟩))
    · have c : ¬ nI m ≤ nI k := nI_ge (by omega) (by omega)
      have hin : vp_in (nI k) 4 := vp_in_nI (by omega) (by omega)
      have cl : (nI k).toNatClampNeg = k := nI_clamp (by omega)
      by_cases f : k = p
      · have l : h < a k := hi _ (by omega) (by omega)
        have r : a (nI k).toNatClampNeg = a k := by rw [cl]
        have c2 : ¬ a (nI k).toNatClampNeg = h := by rw [r]; exact km_lt_ne' l
        have c3 : ¬ a (nI k).toNatClampNeg ≤ h := by rw [r]; exact km_lt_nle l
        have w : vp_updL a (nI k).toNatClampNeg h = km_sh a p h k := by rw [cl, f]; exact km_sh0
        have N : wY_add_26 post h (nI m) n (a k) (nI (k + 1)) (km_sh a p h k) :=
          km_y2 hm st hi (fun m4 => K4 m4 (by omega)) K n (k + 1) (by omega) (by omega) (by omega)
        exact br_f c ⟨hin, br_f c2 ⟨hin, br_f c3 ⟨hin, nm_r r ⟨hin, nm_r w (nm_r (nI_1 k) N)⟩⟩⟩⟩
      · have l : a k < h := lo _ (by omega)
        have c2 : ¬ a (nI k).toNatClampNeg = h := by rw [cl]; exact km_lt_ne l
        have c3 : a (nI k).toNatClampNeg ≤ h := by rw [cl]; exact km_lt_le l
        exact br_f c ⟨hin, br_f c2 ⟨hin, br_t c3 (nm_r (nI_1 k) (ih (k + 1) (by omega) (by omega)))⟩⟩
end
section
/-- one outcome of add for both sides -/
theorem km_add {a : Nat → Int64} {m : Nat} (hm : m ≤ 4) (st : km_st a m) (h : Int64) :
    ∃ (r : Int32) (m' : Nat) (a' : Nat → Int64), m' ≤ 4 ∧ km_st a' m' ∧
      (∀ post : Int32 → SX → Prop, post r (nI m', a') → ∃ n : Nat, wX_add_23 post h (nI m) a n 0) ∧
      (∀ post : Int32 → SY → Prop, post r (nI m', a') → ∃ n : Nat, wY_add_26 post h (nI m) n h 0 a) := by
  obtain ⟨p, pm, lo, hi⟩ := km_pos a h m st
  by_cases fd : p < m ∧ a p = h
  · refine ⟨0, m, a, hm, st, fun post P => ⟨p + 1, ?_⟩, fun post P => ⟨p + 1, ?_⟩⟩
    · exact km_x23f hm fd.1 lo fd.2 P (p + 1) 0 (by omega) (by omega)
    · exact km_y1f hm fd.1 lo fd.2 P (p + 1) 0 (by omega) (by omega)
  · have hi' : ∀ i, p ≤ i → i < m → h < a i := by
      intro i pi im
      by_cases e : i = p
      · subst e
        exact km_le_ne (hi i pi im) (fun z => fd ⟨im, z⟩)
      · have g : h ≤ a p := hi p (by omega) (by omega)
        have l : a p < a i := st p i (by omega) im
        rw [Int64.le_iff_toInt_le] at g
        rw [Int64.lt_iff_toInt_lt] at l ⊢
        omega
    have ne : ∀ i, i < m → ¬ a i = h := by
      intro i im
      by_cases c : i < p
      · exact km_lt_ne (lo i c)
      · exact km_lt_ne' (hi' i (by omega) im)
    by_cases m4 : m = 4
    · by_cases p4 : p = 4
      · have g : ¬ h ≤ a 3 := km_lt_nle (lo 3 (by omega))
        refine ⟨0, m, a, hm, st, fun post P => ⟨m + 1, ?_⟩, fun post P => ⟨m + 1, ?_⟩⟩
        · exact km_x23n hm ne (fun _ z => absurd z g) (fun _ _ => P) (fun z => absurd z (by omega)) (m + 1) 0 (by omega) (by omega)
        · exact km_y1n hm pm st lo hi' (fun _ => P) (fun _ z => absurd z (by omega)) (fun z => absurd z (by omega)) (m + 1) 0 (by omega) (by omega)
      · have g : h ≤ a 3 := hi 3 (by omega) (by omega)
        refine ⟨1, m, km_sh a p h 3, hm, ?_, fun post P => ⟨m + 1, ?_⟩, fun post P => ⟨m + 1, ?_⟩⟩
        · have s := km_st_sh (q := 3) st (by omega) (by omega) lo hi'
          rw [m4]; exact s
        · have N : wX_add_95 post h (nI m) 4 (nI 3) (km_ho a 3 3) :=
            km_x95 (Nat.le_refl 3) lo (fun i h1 h2 => hi' i h1 (by omega)) P 4 3 (by omega) (by omega) (by omega)
          rw [km_ho0] at N
          exact km_x23n hm ne (fun _ _ => ⟨4, N⟩) (fun _ z => absurd g z) (fun z => absurd z (by omega)) (m + 1) 0 (by omega) (by omega)
        · exact km_y1n hm pm st lo hi' (fun z => absurd z p4) (fun _ _ => P) (fun z => absurd z (by omega)) (m + 1) 0 (by omega) (by omega)
    · refine ⟨1, m + 1, km_sh a p h m, by omega, km_st_sh st pm (Nat.le_refl m) lo hi', fun post P => ⟨m + 1, ?_⟩, fun post P => ⟨m + 1, ?_⟩⟩
      · have N : wX_add_95 post h (nI (m + 1)) (m + 1) (nI m) (km_ho a m m) :=
          km_x95 (by omega) lo hi' P (m + 1) m (by omega) (by omega) (by omega)
        rw [km_ho0] at N
        exact km_x23n hm ne (fun z => absurd z m4) (fun z => absurd z m4) (fun _ => ⟨m + 1, N⟩) (m + 1) 0 (by omega) (by omega)
      · exact km_y1n hm pm st lo hi' (fun z => absurd z (by omega)) (fun z => absurd z m4) (fun _ => P) (m + 1) 0 (by omega) (by omega)

/-- both sides hold the same count m and the same array, whose first m places rise strictly -/
def i_Rel (_ : Nat) (u : SX) (v : SY) : Prop := ∃ (m : Nat) (a : Nat → Int64), m ≤ 4 ∧ km_st a m ∧ u = (nI m, a) ∧ v = (nI m, a)
theorem i_up {k : Nat} {u : SX} {v : SY} (h : i_Rel k u v) : i_Rel (k + 2) u v := h
theorem i_vc0 : wpX_init (fun u => wpY_init (fun v => i_Rel 0 u v)) :=
  ⟨0, fun _ => 0, by omega, fun i j _ z => absurd z (by omega), rfl, rfl⟩
theorem i_vc_add {k : Nat} {u : SX} {v : SY} (I : i_Rel k u v) (hk : k + 2 ≤ 1024) (v1 : Int32) : wpX_add (fun r u' => wpY_add (fun r' v' => r' = r ∧ i_Rel (k + 2) u' v') v v1) u v1 := by
  obtain ⟨m, a, hm, st, rfl, rfl⟩ := I
  intro x1 e1 x2 e2 x3 e3
  obtain ⟨r, m', a', hm', st', hX, hY⟩ := km_add hm st x3
  refine hX _ ?_
  intro y1 f1 y2 f2 y3 f3
  have d1 : y1 = x1 := f1.trans e1.symm
  subst d1
  have d2 : y2 = x2 := f2.trans e2.symm
  subst d2
  have d3 : y3 = x3 := f3.trans e3.symm
  subst d3
  exact hY _ ⟨rfl, m', a', hm', st', rfl, rfl⟩
theorem i_vc_kth {k : Nat} {u : SX} {v : SY} (I : i_Rel k u v) (hk : k + 2 ≤ 1024) : wpX_kth (fun r => wpY_kth (fun r' => r' = r ∧ i_Rel (k + 2) u v) v) u := by
  have J : i_Rel (k + 2) u v := I
  obtain ⟨m, a, hm, st, eu, ev⟩ := I
  subst eu
  subst ev
  by_cases z : m = 0
  · have c : nI m = 0 := by rw [z]; exact nI_0
    exact br_t c (br_t c ⟨rfl, J⟩)
  · have c : ¬ nI m = 0 := nI_ne0 (by omega) (by omega)
    have hin : vp_in (nI m - 1) 4 := by rw [km_pr (by omega)]; exact vp_in_nI (by omega) (by omega)
    exact br_f c ⟨hin, br_f c ⟨hin, rfl, J⟩⟩
theorem i_vc_size {k : Nat} {u : SX} {v : SY} (I : i_Rel k u v) (hk : k + 2 ≤ 1024) : wpX_size (fun r => wpY_size (fun r' => r' = r ∧ i_Rel (k + 2) u v) v) u := by
  have J : i_Rel (k + 2) u v := I
  obtain ⟨m, a, hm, st, eu, ev⟩ := I
  subst eu
  subst ev
  exact ⟨rfl, J⟩
end
