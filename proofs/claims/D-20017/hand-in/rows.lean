section
/-! ===== boxes and the list's members (turned from the kit's example list-of-integers and from LIST-LAWS.2) ===== -/
/-- Integer.valueOf: the caller needn't know whether the box is new -/
theorem ls_valueOf {post : Option Nat → StJd1a94 → Prop} {mc ms : Nat} {adB : Nat → Nat} {LP : List Nat} {p : Nat → Int32} (v : Int32) (hm : 1 ≤ mc) (hs : 1 ≤ ms)
    (h : ∀ y LP' p', vb_bx LP' p' adB y v → (∀ z w, vb_bx LP p adB z w → vb_bx LP' p' adB z w) → post (some y) (LP', p')) : wpJ6_valueOf_2dffe_e41c5 post mc ms adB (LP, p) v := by
  have key : wJ6_valueOf_2dffe_e41c5_23 post mc ms adB v 0 0 LP p := by
    refine ⟨by omega, by omega, fun q hq => ⟨Or.inl (List.mem_append.mpr (Or.inr (List.mem_singleton.mpr rfl))), ?_⟩⟩
    show q ∈ LP ++ [q] ∧ post (some q) (LP ++ [q], va_up (va_up p q 0) q v)
    rw [bx_uu]
    exact ⟨List.mem_append.mpr (Or.inr (List.mem_singleton.mpr rfl)), h q _ _ bx_new (fun z w hz => bx_grow hz hq)⟩
  refine ⟨fun _ => key, fun h1 => ⟨fun _ => key, fun h2 => ?_⟩⟩
  obtain ⟨j, hj, e, ev⟩ := bx_small h1 h2
  rw [e, nI_clamp (by omega)]
  exact ⟨vp_in_nI hj (by omega), h _ _ _ (Or.inr ⟨j, hj, rfl, ev⟩) (fun z w hz => hz)⟩
/-- add, room is there -/
theorem ls_add {post : Int32 → StJ174e4 → Prop} {mc ms : Nat} {adB : Nat → Nat} {m : Int32} {c n : Nat} {a : Nat → Option Nat} {LP : List Nat} {p : Nat → Int32} {q : Nat} (hc : c < n) (hn : n < 2 ^ 31) (hq : vb_bm LP adB q)
    (h : post 1 (m + 1, nI (c + 1), va_up a c (some q), n, LP, p)) : wpJx4a65c_add_9ea2d_fa824 post mc ms adB (m, nI c, a, n, LP, p) q := by
  intro f1 e1
  subst e1
  refine ⟨0, 0, by omega, by omega, br_f (fun z => absurd ((nI_eq (by omega) hn).mp z) (by omega)) ⟨vp_in_nI hc hn, hq, ?_⟩⟩
  intro a' ea f' ef
  rw [nI_clamp (by omega)] at ea
  rw [nI_1] at ef
  subst ea ef
  exact h
/-- add, the first of all: ten places are made -/
theorem ls_add_first {post : Int32 → StJ174e4 → Prop} {mc ms : Nat} {adB : Nat → Nat} {m : Int32} {LP : List Nat} {p : Nat → Int32} {q : Nat} (hm : 1 ≤ mc) (hs : 10 ≤ ms) (hq : vb_bm LP adB q)
    (h : post 1 (m + 1, nI 1, va_up (fun _ => none) 0 (some q), 10, LP, p)) : wpJx4a65c_add_9ea2d_8607b post mc ms adB (m, 0, LP, p) q := by
  intro f1 e1
  subst e1
  refine ⟨1, 10, by omega, by omega, br_t rfl ⟨1, 10, by omega, by omega, ⟨1, 10, by omega, by omega, by decide, ?_⟩⟩⟩
  intro n en
  have e10 : n = 10 := en.trans (by decide)
  subst e10
  refine ⟨by decide, by decide, by decide, ⟨by unfold vp_in; decide, hq, ?_⟩⟩
  intro a' ea f' ef
  have ea' : a' = va_up (fun _ => none) 0 (some q) := ea.trans (by rw [show (0 : Int32).toNatClampNeg = 0 by decide])
  have ef' : f' = nI 1 := ef.trans (by decide)
  subst ea' ef'
  exact h
/-- get(i) of a list of c elements, the place holds a box -/
theorem ls_get {post : Option Nat → Prop} {adB : Nat → Nat} {m : Int32} {c n i y : Nat} {a : Nat → Option Nat} {LP : List Nat} {p : Nat → Int32} (hi : i < c) (hc : c ≤ n) (hn : n < 2 ^ 31) (ha : a i = some y) (h : post (some y)) :
    wpJx4a65c_get_915e3_e1769 post adB (m, nI c, a, n, LP, p) (nI i) := by
  have e : a (nI i).toNatClampNeg = some y := by rw [nI_clamp (by omega)]; exact ha
  exact br_f (nI_pos (by omega)) (br_t (nI_lt hi (by omega)) ⟨vp_in_nI (by omega) hn, op_s e (op_s rfl h)⟩)
/-- what both sums answer: m is the number of places below the bound x1, cut at 0 -/
def ls_ans (f : Nat → Int32) (m c : Nat) : Int32 := if m = c then -bx_sum f m else bx_sum f m
/-- the class: its loop over the iterator -/
theorem ls_x0_12 {post : Int32 → St3 → Prop} {mc ms kc ks : Nat} {adB : Nat → Nat} {x1 mod : Int32} {c N m : Nat} {a : Nat → Option Nat} {f : Nat → Int32} {LP : List Nat} {p : Nat → Int32} (hr : bx_rows LP p adB a f c) (hcn : c ≤ N) (hn : N < 2 ^ 31) (hm : m ≤ c)
    (hx : ∀ i, i ≤ c → (x1 ≤ nI i ↔ m ≤ i)) (h : post (ls_ans f m c) (mod, nI c, a, N, LP, p)) :
    ∀ (n j : Nat) (lr : Int32), j ≤ m → m < n + j → wX0_sumOfFirst_2_12 post mc ms adB x1 kc ks n (bx_sum f j) (nI j) mod (nI c) a N (nI j) lr mod LP p := by
  intro n
  induction n with
  | zero => intro j lr h1 h2; omega
  | succ n ih =>
    intro j lr h1 h2
    by_cases hj : j = m
    · subst hj
      refine br_t ((hx j hm).mpr (Nat.le_refl j)) ?_
      by_cases e : j = c
      · rw [ls_ans, if_pos e] at h
        exact br_t (congrArg nI e) (br_t rfl h)
      · rw [ls_ans, if_neg e] at h
        exact br_f (fun z => e ((nI_eq (by omega) (by omega)).mp z)) (br_f (by decide) h)
    · obtain ⟨y, ha, hb⟩ := hr j (by omega)
      have hc : a (nI j).toNatClampNeg = some y := by rw [nI_clamp (by omega)]; exact ha
      refine br_f (fun z => absurd ((hx j (by omega)).mp z) (by omega)) ?_
      refine br_t rfl (br_t (nI_lt (a := j) (b := c) (by omega) (by omega)) (br_t (nI_lt (a := j) (b := N) (by omega) hn) ?_))
      refine nm_r (nI_1 j) ⟨vp_in_nI (by omega) hn, op_s hc ?_⟩
      refine op_s rfl ⟨hb.bm, f j, hb, nm_e (nm_r (nI_1 j) ?_)⟩
      exact ih (j + 1) _ (by omega) (by omega)
theorem ls_x0 {post : Int32 → St3 → Prop} {mc ms : Nat} {adB : Nat → Nat} {x1 mod : Int32} {c N m : Nat} {a : Nat → Option Nat} {f : Nat → Int32} {LP : List Nat} {p : Nat → Int32} (hr : bx_rows LP p adB a f c) (hcn : c ≤ N) (hn : N < 2 ^ 31) (hm : m ≤ c)
    (hx : ∀ i, i ≤ c → (x1 ≤ nI i ↔ m ≤ i)) (hmc : 1 ≤ mc) (hms : 4 ≤ ms) (h : post (ls_ans f m c) (mod, nI c, a, N, LP, p)) : wpX0_sumOfFirst_2 post mc ms adB (mod, nI c, a, N, LP, p) x1 :=
  ⟨mc, ms, by omega, by omega, hmc, hms, m + 1, ls_x0_12 hr hcn hn hm hx h (m + 1) 0 (-1) (Nat.zero_le _) (by omega)⟩
/-- the plain form: its loop from the last place down -/
theorem ls_x1_14 {post : Int32 → Prop} {adB : Nat → Nat} {x1 mod : Int32} {c N m : Nat} {a : Nat → Option Nat} {f : Nat → Int32} {LP : List Nat} {p : Nat → Int32} (hr : bx_rows LP p adB a f c) (hcn : c ≤ N) (hn : N < 2 ^ 31) (hm : m ≤ c)
    (hx : ∀ i, i ≤ c → (x1 ≤ nI i ↔ m ≤ i)) (h : post (ls_ans f m c)) :
    ∀ (n j : Nat) (x2 x3 x4 : Int32), j ≤ c → j < n → x4 = nI j + (-1) → x3 = nI (c - max j m) → x2 + bx_sum f (min j m) = bx_sum f m → wX1_sumOfFirst_2_14 post adB x1 mod (nI c) a N LP p n x2 x3 x4 := by
  intro n
  induction n with
  | zero => intro j x2 x3 x4 h1 h2; omega
  | succ n ih =>
    intro j x2 x3 x4 h1 h2 e4 e3 e2
    cases j with
    | zero =>
      have e4' : x4 = -1 := e4.trans (by decide)
      have e3' : x3 = nI (c - m) := by rw [e3, Nat.zero_max]
      have e2' : x2 = bx_sum f m := by
        rw [Nat.zero_min] at e2
        exact (Int32.add_zero x2).symm.trans e2
      subst e4' e3' e2'
      refine br_t (by decide) ?_
      by_cases e : m = c
      · rw [ls_ans, if_pos e] at h
        refine br_t (by rw [show c - m = 0 by omega]; decide) ?_
        rw [Int32.zero_sub]
        exact h
      · rw [ls_ans, if_neg e] at h
        exact br_f (nI_nle (by omega) (by omega)) h
    | succ j =>
      have e4' : x4 = nI j := e4.trans (pk_m1 j)
      subst e4'
      refine br_f (nI_pos (by omega)) ?_
      by_cases e : m ≤ j
      · refine br_t ((hx j (by omega)).mpr e) (nm_e (nm_e ?_))
        refine ih j x2 _ _ (by omega) (by omega) rfl ?_ ?_
        · rw [e3, nI_1, show c - max (j + 1) m + 1 = c - max j m by omega]
        · rw [show min j m = min (j + 1) m by omega]
          exact e2
      · obtain ⟨y, ha, hb⟩ := hr j (by omega)
        refine br_f (fun z => e ((hx j (by omega)).mp z)) (ls_get (by omega) hcn hn ha (op_s rfl ⟨hb.bm, f j, hb, nm_e (nm_e ?_)⟩))
        refine ih j _ x3 _ (by omega) (by omega) rfl ?_ ?_
        · rw [e3, show max (j + 1) m = max j m by omega]
        · rw [show min (j + 1) m = j + 1 by omega] at e2
          rw [show min j m = j by omega, ← e2]
          show x2 + f j + bx_sum f j = x2 + (bx_sum f j + f j)
          rw [Int32.add_assoc, Int32.add_comm (f j)]
theorem ls_x1 {post : Int32 → Prop} {adB : Nat → Nat} {x1 mod : Int32} {c N m : Nat} {a : Nat → Option Nat} {f : Nat → Int32} {LP : List Nat} {p : Nat → Int32} (hr : bx_rows LP p adB a f c) (hcn : c ≤ N) (hn : N < 2 ^ 31) (hm : m ≤ c)
    (hx : ∀ i, i ≤ c → (x1 ≤ nI i ↔ m ≤ i)) (h : post (ls_ans f m c)) : wpX1_sumOfFirst_2 post adB (mod, nI c, a, N, LP, p) x1 :=
  fun x4 e4 => ⟨c + 1, ls_x1_14 hr hcn hn hm hx h (c + 1) c 0 0 x4 (Nat.le_refl c) (by omega) (e4.trans (Int32.sub_eq_add_neg _ _)) (by rw [show c - max c m = 0 by omega]; rfl) (by rw [show min c m = m by omega]; exact Int32.zero_add _)⟩
end
section
/-- the law's count: m places are below it -/
theorem ls_count (x3 : Int32) (c : Nat) (hc : c ≤ 8) : ∃ m, m ≤ c ∧ ∀ i, i ≤ c → (((x3 &&& 15) - (x3 &&& 15) / (nI c + 2) * (nI c + 2)) - 1 ≤ nI i ↔ m ≤ i) := by
  obtain ⟨j, hj, e⟩ := pk_andE x3 (m := 15) 4 (by decide)
  have h15 : j < 16 := hj
  rw [e, show nI c + 2 = nI (c + 2) from nI_add c 2, pk_rem (by omega) (by omega) (by omega)]
  have hr : j % (c + 2) < c + 2 := Nat.mod_lt _ (by omega)
  refine ⟨j % (c + 2) - 1, by omega, fun i hi => ?_⟩
  generalize j % (c + 2) = r at hr
  cases r with
  | zero => exact ⟨fun _ => by omega, fun _ => Int32.le_iff_toInt_le.mpr (by rw [nI_toInt (by omega), show (nI 0 - 1).toInt = -1 by decide]; omega)⟩
  | succ r =>
    rw [nI_pred]
    exact nI_leI (by omega) (by omega)
/-- the law's last loop: get and equals -/
theorem ls_131 {post : Int32 → St1 → Prop} {mc ms kc ks : Nat} {adB : Nat → Nat} {m1 m2 : Int32} {c N : Nat} {a b : Nat → Option Nat} {f : Nat → Int32} {LP : List Nat} {p : Nat → Int32} (hr : bx_rows LP p adB a f c) (hr2 : bx_rows LP p adB b f c) (hcn : c ≤ N) (hn : N < 2 ^ 31)
    (h : post 1 (LP, p)) : ∀ n j : Nat, j ≤ c → c < n + j → wL_lawOf_131 post mc ms adB n (.inr (nI c, nI j, kc, ks, m1, nI c, a, N, m2, nI c, b, N, LP, p)) := by
  intro n
  induction n with
  | zero => intro j h1 h2; omega
  | succ n ih =>
    intro j h1 h2
    by_cases hj : j = c
    · subst hj
      exact br_t (nI_le (Nat.le_refl j) (by omega)) h
    · obtain ⟨y, ha, hb⟩ := hr j (by omega)
      obtain ⟨z, ha2, hb2⟩ := hr2 j (by omega)
      refine br_f (nI_ge (by omega) (by omega)) (ls_get (by omega) hcn hn ha (op_s rfl ⟨hb.bm, ls_get (by omega) hcn hn ha2 (op_s rfl ?_)⟩))
      refine ⟨hb2.bm, f j, hb, f j, hb2, br_t rfl (br_f (by decide) (nm_r (nI_1 j) ?_))⟩
      exact ih (j + 1) (by omega) (by omega)
/-- the law's first loop, behind its first turn -/
theorem ls_33 {post : Int32 → St1 → Prop} {mc ms : Nat} {adB : Nat → Nat} {x0 x1 x3 : Int32} {c : Nat} (hc : c ≤ 8) (hmc : 28 ≤ mc) (hms : 448 ≤ ms) (hp : ∀ LP p, post 1 (LP, p)) :
    ∀ (n i kc ks : Nat) (m1 m2 : Int32) (a b : Nat → Option Nat) (f : Nat → Int32) (LP : List Nat) (p : Nat → Int32), i ≤ c → c < n + i → kc ≤ 4 + 2 * i → ks ≤ 26 + 2 * i → bx_rows LP p adB a f i → bx_rows LP p adB b f i →
    wL_lawOf_33 post mc ms adB n (.inr (x0, x1, x3, nI c, nI i, kc, ks, m1, nI i, a, 10, m2, nI i, b, 10, LP, p)) := by
  intro n
  induction n with
  | zero => intro i kc ks m1 m2 a b f LP p h1 h2; omega
  | succ n ih =>
    intro i kc ks m1 m2 a b f LP p h1 h2 h3 h4 hr hr2
    by_cases hi : i = c
    · subst hi
      obtain ⟨m, hm, hx⟩ := ls_count x3 i hc
      have h0 : ¬ nI i + 2 = 0 := by
        rw [show nI i + 2 = nI (i + 2) from nI_add i 2]
        exact nI_ne0 (by omega) (by omega)
      refine br_t (nI_le (Nat.le_refl i) (by omega)) ⟨h0, nm_e ⟨1, 4, by omega, by omega, ls_x0 hr (by omega) (by omega) hm hx (Nat.le_refl _) (Nat.le_refl _) ?_⟩⟩
      refine ls_x1 hr2 (by omega) (by omega) hm hx (br_t rfl ?_)
      exact br_t rfl ⟨i + 1, ls_131 hr hr2 (by omega) (by omega) (hp _ _) (i + 1) 0 (Nat.zero_le _) (by omega)⟩
    · refine br_f (nI_ge (by omega) (by omega)) (nm_e ⟨1, 1, by omega, by omega, ls_valueOf _ (Nat.le_refl _) (Nat.le_refl _) fun y LP1 p1 hb hk => op_s rfl ?_⟩)
      refine ⟨0, 0, by omega, by omega, ls_add (by omega) (by omega) hb.bm ?_⟩
      refine ⟨1, 1, by omega, by omega, ls_valueOf _ (Nat.le_refl _) (Nat.le_refl _) fun z LP2 p2 hb2 hk2 => op_s rfl ?_⟩
      refine ⟨0, 0, by omega, by omega, ls_add (by omega) (by omega) hb2.bm (nm_r (nI_1 i) ?_)⟩
      exact ih (i + 1) _ _ _ _ _ _ _ _ _ (by omega) (by omega) (by omega) (by omega) (bx_rows_add hr (fun w v hw => hk2 w v (hk w v hw)) (hk2 _ _ hb)) (bx_rows_add hr2 (fun w v hw => hk2 w v (hk w v hw)) hb2)
/-- .. and from its start -/
theorem ls_start {post : Int32 → St1 → Prop} {mc ms : Nat} {adB : Nat → Nat} {x0 x1 x3 : Int32} {c : Nat} {LP : List Nat} {p : Nat → Int32} (hc : c ≤ 8) (hmc : 28 ≤ mc) (hms : 448 ≤ ms) (hp : ∀ LP p, post 1 (LP, p)) :
    ∃ n, wL_lawOf_33 post mc ms adB n (.inl (x0, x1, x3, nI c, 0, 2, 6, 0, 0, 0, 0, LP, p)) := by
  by_cases h : c = 0
  · subst h
    obtain ⟨m, hm, hx⟩ := ls_count x3 0 (by omega)
    refine ⟨1, br_t (nI_le (a := 0) (b := 0) (Nat.le_refl 0) (by omega)) ⟨by decide, nm_e ⟨1, 4, by omega, by omega, ?_⟩⟩⟩
    refine ⟨1, 4, by omega, by omega, by omega, by omega, 1, br_t ((hx 0 (Nat.le_refl 0)).mpr hm) (br_t rfl (br_t rfl ?_))⟩
    refine nm_e ⟨1, br_t (by decide) (br_t (by decide) (br_t (by decide) (br_t rfl ⟨1, br_t (nI_le (a := 0) (b := 0) (Nat.le_refl 0) (by omega)) (hp _ _)⟩)))⟩
  · refine ⟨c + 1, br_f (nI_nle (by omega) (by omega)) (nm_e ⟨1, 1, by omega, by omega, ls_valueOf _ (Nat.le_refl _) (Nat.le_refl _) fun y LP1 p1 hb hk => op_s rfl ?_⟩)⟩
    refine ⟨1, 10, by omega, by omega, ls_add_first (Nat.le_refl _) (Nat.le_refl _) hb.bm ?_⟩
    refine ⟨1, 1, by omega, by omega, ls_valueOf _ (Nat.le_refl _) (Nat.le_refl _) fun z LP2 p2 hb2 hk2 => op_s rfl ?_⟩
    refine ⟨1, 10, by omega, by omega, ls_add_first (Nat.le_refl _) (Nat.le_refl _) hb2.bm (nm_r (nI_1 0) ?_)⟩
    exact ls_33 hc hmc hms hp c 1 _ _ _ _ _ _ (upd (fun _ => 0) 0 _) _ _ (by omega) (by omega) (by omega) (by omega) (bx_rows_add bx_rows_0 (fun w v hw => hk2 w v (hk w v hw)) (hk2 _ _ hb)) (bx_rows_add bx_rows_0 (fun w v hw => hk2 w v (hk w v hw)) hb2)
theorem ls_lawOf {post : Int32 → St1 → Prop} {mc ms : Nat} {adB : Nat → Nat} {LP : List Nat} {p : Nat → Int32} {p0 p1 p2 p3 : Int32} (hmc : 28 ≤ mc) (hms : 448 ≤ ms) (hp : ∀ LP p, post 1 (LP, p)) : wpL_lawOf post mc ms adB (LP, p) p0 p1 p2 p3 := by
  intro x4 e4
  obtain ⟨j, hj, ej⟩ := pk_andE p2 (m := 7) 3 (by decide)
  obtain ⟨k, hk, ek⟩ := pk_andE ((p2.toUInt32 >>> ((3 : Int32).toUInt32 &&& Int32.toUInt32 31)).toInt32) (m := 1) 1 (by decide)
  have hj' : j < 8 := hj
  have hk' : k < 2 := hk
  rw [ej, ek, nI_add] at e4
  subst e4
  exact ⟨by omega, by omega, by omega, by omega, ls_start (by omega) hmc hms hp⟩
theorem ls_cell {post : Int32 → Prop} {L : Nat} {xs : Nat → Int32} (hL : L ≤ 4) (i : Nat) (hi : i < 4) (h : ∀ r, post r) : wpL_cellAt post L xs () (nI i) :=
  pk_le L i (fun _ => h _) (fun z => ⟨vp_in_nI z (by omega), h _⟩)
theorem i_vc (xs : Nat → Int32) (L : Nat) (hL : L ≤ 4) : wpL_law (fun r => r = 1) L xs := by
  intro adB
  refine ls_cell hL 0 (by decide) fun r1 => ls_cell hL 1 (by decide) fun r2 => ls_cell hL 2 (by decide) fun r3 => ls_cell hL 3 (by decide) fun r4 => ?_
  exact ⟨28, 448, by omega, by omega, ls_lawOf (Nat.le_refl _) (Nat.le_refl _) (fun _ _ => rfl)⟩
end
