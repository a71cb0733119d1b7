section
/-! ===== the picture: an array's first places hold boxes of the ints of l ===== -/
def cu_R (LP : List Nat) (p : Nat → Int32) (ad : Nat → Nat) (a : Nat → Option Nat) (l : List Int32) : Prop := ∀ k v, l[k]? = some v → ∃ y, a k = some y ∧ vb_bx LP p ad y v
theorem cu_us {α : Type} {f : Nat → α} {k : Nat} {x : α} : va_up f k x k = x := if_pos rfl
theorem cu_un {α : Type} {f : Nat → α} {k j : Nat} {x : α} (h : j ≠ k) : va_up f k x j = f j := if_neg h
theorem cu_R_0 {LP : List Nat} {p : Nat → Int32} {ad : Nat → Nat} {a : Nat → Option Nat} : cu_R LP p ad a [] := by
  intro k v h
  rw [List.getElem?_nil] at h
  exact absurd h (by simp)
theorem cu_R_add {LP : List Nat} {p : Nat → Int32} {ad : Nat → Nat} {a : Nat → Option Nat} {l : List Int32} {y : Nat} {v : Int32} (h : cu_R LP p ad a l) (hx : vb_bx LP p ad y v) : cu_R LP p ad (va_up a l.length (some y)) (l ++ [v]) := by
  intro k w hk
  by_cases e : k = l.length
  · subst e
    rw [List.getElem?_append_right (Nat.le_refl _), Nat.sub_self] at hk
    have hw : v = w := by simpa using hk
    subst hw
    exact ⟨y, cu_us, hx⟩
  · by_cases e2 : k < l.length
    · rw [List.getElem?_append_left e2] at hk
      obtain ⟨z, hz, hb⟩ := h k w hk
      exact ⟨z, (cu_un e).trans hz, hb⟩
    · rw [List.getElem?_append_right (by omega), show k - l.length = (k - l.length - 1) + 1 by omega, List.getElem?_cons_succ, List.getElem?_nil] at hk
      exact absurd hk (by simp)
theorem cu_R_mid {LP : List Nat} {p : Nat → Int32} {ad : Nat → Nat} {a : Nat → Option Nat} {pre t : List Int32} {x : Int32} (h : cu_R LP p ad a (pre ++ x :: t)) : ∃ y, a pre.length = some y ∧ vb_bx LP p ad y x :=
  h pre.length x (by rw [List.getElem?_append_right (Nat.le_refl _), Nat.sub_self]; rfl)
theorem cu_R_rem {LP : List Nat} {p : Nat → Int32} {ad : Nat → Nat} {a a' : Nat → Option Nat} {pre t : List Int32} {x : Int32} (h : cu_R LP p ad a (pre ++ x :: t)) (h1 : ∀ j, j < pre.length → a' j = a j) (h2 : ∀ j, pre.length ≤ j → j < pre.length + t.length → a' j = a (j + 1)) : cu_R LP p ad a' (pre ++ t) := by
  intro k v hk
  by_cases e : k < pre.length
  · rw [List.getElem?_append_left e] at hk
    obtain ⟨y, hy, hb⟩ := h k v (by rw [List.getElem?_append_left e]; exact hk)
    exact ⟨y, (h1 k e).trans hy, hb⟩
  · have hl : k < pre.length + t.length := by
      rcases Nat.lt_or_ge k (pre.length + t.length) with z | z
      · exact z
      · rw [List.getElem?_eq_none (by rw [List.length_append]; exact z)] at hk
        exact absurd hk (by simp)
    rw [List.getElem?_append_right (by omega)] at hk
    obtain ⟨y, hy, hb⟩ := h (k + 1) v (by
      rw [List.getElem?_append_right (by omega), show k + 1 - pre.length = (k - pre.length) + 1 by omega, List.getElem?_cons_succ]
      exact hk)
    exact ⟨y, (h2 k (by omega) hl).trans hy, hb⟩
/-- the boxes behind place pre.length are boxes -/
theorem cu_R_bm {LP : List Nat} {p : Nat → Int32} {ad : Nat → Nat} {a : Nat → Option Nat} {l : List Int32} {k y : Nat} (h : cu_R LP p ad a l) (hk : k < l.length) (hy : a k = some y) : vb_bm LP ad y := by
  obtain ⟨z, hz, hb⟩ := h k l[k] (List.getElem?_eq_getElem hk)
  rw [hy] at hz
  cases hz
  exact hb.bm
/-! ===== the two ways of cutting, over lists ===== -/
/-- the run's length behind x, k before it -/
def cu_s (b x : Int32) (k : Nat) : Nat := if x = b then k + 1 else 0
/-- the length of the run that a front part ends with -/
def cu_n (b : Int32) : Nat → List Int32 → Nat
  | k, [] => k
  | k, x :: t => cu_n b (cu_s b x k) t
/-- what the twin leaves: the odd places of the runs go -/
def cu_t (b : Int32) : Nat → List Int32 → List Int32
  | _, [] => []
  | k, x :: t => if cu_s b x k % 2 = 1 then cu_t b (cu_s b x k) t else x :: cu_t b (cu_s b x k) t
/-- what the component leaves: true: the head is passed over -/
def cu_f (b : Int32) : Bool → List Int32 → List Int32
  | _, [] => []
  | true, x :: t => x :: cu_f b false t
  | false, x :: t => if x = b then cu_f b true t else x :: cu_f b false t
theorem cu_t_cons (b x : Int32) (k : Nat) (t : List Int32) : cu_t b k (x :: t) = if cu_s b x k % 2 = 1 then cu_t b (cu_s b x k) t else x :: cu_t b (cu_s b x k) t := rfl
theorem cu_ft (b : Int32) : ∀ (t : List Int32) (k : Nat) (s : Bool), (s = true ↔ k % 2 = 1) → cu_f b s t = cu_t b k t := by
  intro t
  induction t with
  | nil => intro k s _; cases s <;> rfl
  | cons x t ih =>
    intro k s hs
    rw [cu_t_cons]
    cases s with
    | true =>
      have hk : k % 2 = 1 := hs.mp rfl
      have e : ¬ cu_s b x k % 2 = 1 := by
        unfold cu_s
        split <;> omega
      show x :: cu_f b false t = _
      rw [if_neg e, ih (cu_s b x k) false ⟨fun z => (by cases z), fun z => absurd z e⟩]
    | false =>
      have hk : ¬ k % 2 = 1 := fun z => absurd (hs.mpr z) (by decide)
      show (if x = b then cu_f b true t else x :: cu_f b false t) = _
      by_cases hx : x = b
      · have e : cu_s b x k % 2 = 1 := by
          unfold cu_s
          rw [if_pos hx]
          omega
        rw [if_pos hx, if_pos e, ih (cu_s b x k) true ⟨fun _ => e, fun _ => rfl⟩]
      · have e : ¬ cu_s b x k % 2 = 1 := by
          unfold cu_s
          rw [if_neg hx]
          decide
        rw [if_neg hx, if_neg e, ih (cu_s b x k) false ⟨fun z => (by cases z), fun z => absurd z e⟩]
theorem cu_n_snoc (b x : Int32) (pre : List Int32) : ∀ k, cu_n b k (pre ++ [x]) = cu_s b x (cu_n b k pre) := by
  induction pre with
  | nil => intro k; rfl
  | cons y t ih => intro k; exact ih (cu_s b y k)
theorem cu_s_le (b x : Int32) (k : Nat) : cu_s b x k ≤ k + 1 := by
  unfold cu_s
  split <;> omega
theorem cu_n_le (b : Int32) (pre : List Int32) : ∀ k, cu_n b k pre ≤ k + pre.length := by
  induction pre with
  | nil => intro k; exact Nat.le_refl _
  | cons y t ih =>
    intro k
    have h1 := ih (cu_s b y k)
    have h2 := cu_s_le b y k
    show cu_n b (cu_s b y k) t ≤ k + (t.length + 1)
    omega
theorem cu_t_le (b : Int32) (t : List Int32) : ∀ k, (cu_t b k t).length ≤ t.length := by
  induction t with
  | nil => intro k; exact Nat.le_refl _
  | cons x t ih =>
    intro k
    have h := ih (cu_s b x k)
    rw [cu_t_cons]
    split
    · show _ ≤ t.length + 1
      omega
    · show (cu_t b (cu_s b x k) t).length + 1 ≤ t.length + 1
      omega
/-! ===== the list that the law makes ===== -/
def cu_v (x : Int32) (i : Nat) : Int32 := ((x.toUInt32 >>> ((2 * nI i).toUInt32 &&& Int32.toUInt32 31)).toInt32) &&& 3
def cu_L (x : Int32) : Nat → List Int32
  | 0 => []
  | n + 1 => cu_L x n ++ [cu_v x n]
theorem cu_L_len (x : Int32) (n : Nat) : (cu_L x n).length = n := by
  induction n with
  | zero => rfl
  | succ n ih =>
    show (cu_L x n ++ [cu_v x n]).length = n + 1
    rw [List.length_append, ih]
    rfl
end
section
/-! ===== the list's members ===== -/
/-- get(k) -/
theorem cu_get {post : Option Nat → Prop} {adB : Nat → Nat} {mod : Int32} {c N k y : Nat} {a : Nat → Option Nat} {LP : List Nat} {p : Nat → Int32} (ha : a k = some y) (hk : k < c) (hcn : c ≤ N) (hn : N < 2 ^ 31) (h : post (some y)) : wpJx4a65c_get_915e3_e1769 post adB (mod, nI c, a, N, LP, p) (nI k) := by
  have hc : a (nI k).toNatClampNeg = some y := by rw [nI_clamp (by omega)]; exact ha
  refine ⟨fun z => absurd z (nI_pos (by omega)), fun _ => ⟨fun _ => ?_, fun z => absurd (nI_lt hk (by omega)) z⟩⟩
  refine ⟨vp_in_nI (by omega) hn, fun z => absurd (z.symm.trans hc) (by simp), fun y2 e2 => ?_⟩
  cases e2.symm.trans hc
  exact cm_some h
/-- fastRemove at pre.length -/
theorem cu_fast {post : StJ174e4 → Prop} {adB : Nat → Nat} {mod : Int32} {N : Nat} {a : Nat → Option Nat} {LP : List Nat} {p : Nat → Int32} {pre t : List Int32} {x : Int32} (hr : cu_R LP p adB a (pre ++ x :: t)) (hl : pre.length + t.length + 1 ≤ N) (hn : N < 2 ^ 31)
    (h : ∀ a', cu_R LP p adB a' (pre ++ t) → post (mod + 1, nI (pre.length + t.length), a', N, LP, p)) : wpJx4a65c_fastRemove_b59b0_1e68d post adB (mod, nI (pre.length + t.length + 1), a, N, LP, p) (nI pre.length) := by
  have e1 : nI (pre.length + t.length + 1) - 1 = nI (pre.length + t.length) := nI_pred _
  have ec : (nI (pre.length + t.length)).toNatClampNeg = pre.length + t.length := nI_clamp (by omega)
  have ek : (nI pre.length).toNatClampNeg = pre.length := nI_clamp (by omega)
  have ek1 : (nI pre.length + 1).toNatClampNeg = pre.length + 1 := by rw [nI_1]; exact nI_clamp (by omega)
  have ed : nI (pre.length + t.length) - nI pre.length = nI t.length := by
    rw [pk_sub (by omega), Nat.add_sub_cancel_left]
  have et : (nI t.length).toNatClampNeg = t.length := nI_clamp (by omega)
  have hlen : (pre ++ x :: t).length = pre.length + (t.length + 1) := List.length_append
  intro f1 ef x3 e3
  have e3' : x3 = nI (pre.length + t.length) := e3.trans e1
  subst e3' ef
  refine ⟨fun z => ?_, fun z => ?_⟩
  · rw [e1] at z
    have ht : t.length = 0 := by
      have := (nI_leI (by omega) (by omega)).mp z
      omega
    refine ⟨vp_in_nI (by omega) hn, fun a' ea => ?_⟩
    rw [ec] at ea
    subst ea
    refine h _ (cu_R_rem hr (fun j hj => cu_un (by omega)) (fun j h1 h2 => ?_))
    omega
  · refine ⟨by rw [nI_1]; exact nI_pos (by omega), nI_pos (by omega), by rw [ed]; exact nI_pos (by omega), by rw [ek1, ed, et]; omega, by rw [ek, ed, et]; omega, fun i hi y hy => ?_, fun a1 ea1 => ?_⟩
    · rw [ed, et] at hi
      rw [ek1] at hy
      exact cu_R_bm hr (by omega) hy
    · rw [ek1, ek, ed, et] at ea1
      refine ⟨vp_in_nI (by omega) hn, fun a' ea => ?_⟩
      rw [ec] at ea
      subst ea ea1
      refine h _ (cu_R_rem hr (fun j hj => ?_) (fun j h1 h2 => ?_))
      · rw [cu_un (by omega), pk_cpy_out (Or.inl hj)]
      · rw [cu_un (by omega), pk_cpy_in h1 h2, show pre.length + 1 + (j - pre.length) = j + 1 by omega]
/-- remove(pre.length) -/
theorem cu_rem {post : Option Nat → StJ174e4 → Prop} {adB : Nat → Nat} {mod : Int32} {c i N : Nat} {a : Nat → Option Nat} {LP : List Nat} {p : Nat → Int32} {pre t : List Int32} {x : Int32} (hr : cu_R LP p adB a (pre ++ x :: t)) (hi : i = pre.length) (hc : c = pre.length + t.length + 1) (hl : c ≤ N) (hn : N < 2 ^ 31)
    (h : ∀ y a', cu_R LP p adB a' (pre ++ t) → post (some y) (mod + 1, nI (pre.length + t.length), a', N, LP, p)) : wpJx4a65c_remove_915e3_0e105 post adB (mod, nI c, a, N, LP, p) (nI i) := by
  subst hi hc
  obtain ⟨y, hy, hb⟩ := cu_R_mid hr
  have hy' : a (nI pre.length).toNatClampNeg = some y := by rw [nI_clamp (by omega)]; exact hy
  refine ⟨fun z => absurd z (nI_pos (by omega)), fun _ => ⟨fun _ => ?_, fun z => absurd (nI_lt (by omega) (by omega)) z⟩⟩
  refine ⟨vp_in_nI (by omega) hn, fun z => absurd (z.symm.trans hy') (by simp), fun y2 e2 => ?_⟩
  exact cu_fast hr hl hn (fun a' hr' => h y2 a' hr')
/-- Integer.valueOf of a small int: a box of the cache -/
theorem cu_val {post : Option Nat → StJd1a94 → Prop} {mc ms : Nat} {adB : Nat → Nat} {LP : List Nat} {p : Nat → Int32} (x : Int32) (h : ∀ y, vb_bx LP p adB y (x &&& 3) → post (some y) (LP, p)) : wpJ6_valueOf_2dffe_e41c5 post mc ms adB (LP, p) (x &&& 3) := by
  obtain ⟨j, hj, e⟩ := pk_andE x (m := 3) 2 (by decide)
  have hk : ∀ j, j < 4 → ¬ nI j < (-128) ∧ ¬ 127 < nI j := by decide
  have h1 : ¬ (x &&& 3) < (-128) := by rw [e]; exact (hk j hj).1
  have h2 : ¬ 127 < (x &&& 3) := by rw [e]; exact (hk j hj).2
  obtain ⟨q, hq, e1, e2⟩ := bx_small h1 h2
  refine ⟨fun z => absurd z h1, fun _ => ⟨fun z => absurd z h2, fun _ => ?_⟩⟩
  rw [e1, nI_clamp (by omega)]
  exact ⟨vp_in_nI hq (by omega), h _ (Or.inr ⟨q, hq, rfl, e2⟩)⟩
/-- add where there is room -/
theorem cu_add {post : Int32 → StJ174e4 → Prop} {mc ms : Nat} {adB : Nat → Nat} {mod : Int32} {c N y : Nat} {a : Nat → Option Nat} {LP : List Nat} {p : Nat → Int32} (hc : c < N) (hn : N < 2 ^ 31) (hy : vb_bm LP adB y)
    (h : post 1 (mod + 1, nI (c + 1), va_up a c (some y), N, LP, p)) : wpJx4a65c_add_9ea2d_fa824 post mc ms adB (mod, nI c, a, N, LP, p) y := by
  intro f1 e1
  subst e1
  refine ⟨0, 0, by omega, by omega, br_f (fun z => absurd ((nI_eq (by omega) hn).mp z) (by omega)) ⟨vp_in_nI hc hn, hy, ?_⟩⟩
  intro a' ea f' ef
  rw [nI_clamp (by omega)] at ea
  rw [nI_1] at ef
  subst ea ef
  exact h
/-- the first add: ten places are made -/
theorem cu_add1 {post : Int32 → StJ174e4 → Prop} {mc ms : Nat} {adB : Nat → Nat} {mod : Int32} {y : Nat} {LP : List Nat} {p : Nat → Int32} (hm : 1 ≤ mc) (hs : 10 ≤ ms) (hy : vb_bm LP adB y)
    (h : post 1 (mod + 1, nI 1, va_up (fun _ => none) 0 (some y), 10, LP, p)) : wpJx4a65c_add_9ea2d_8607b post mc ms adB (mod, 0, LP, p) y := by
  intro f1 e1
  subst e1
  refine ⟨1, 10, by omega, by omega, br_t rfl ⟨1, 10, by omega, by omega, ⟨1, 10, by omega, by omega, by decide, ?_⟩⟩⟩
  intro n en
  have e10 : n = 10 := en.trans (by decide)
  subst e10
  refine ⟨by decide, by decide, by decide, ⟨vp_in_nI (n := 0) (by omega) (by omega), hy, ?_⟩⟩
  intro a' ea f' ef
  have ea' : a' = va_up (fun _ => none) 0 (some y) := ea
  have ef' : f' = nI 1 := ef.trans (by decide)
  subst ea' ef'
  exact h
end
section
/-! ===== the law's list ===== -/
theorem cu_xs16 {post : (St2 ⊕ St3) → Prop} {mc ms : Nat} {adB : Nat → Nat} {LP : List Nat} {p : Nat → Int32} {x : Int32} {m : Nat} (hm : m < 8) (H : ∀ mod a, cu_R LP p adB a (cu_L x m) → post (.inr (mod, nI m, a, 10, LP, p))) :
    ∀ (n i kc ks : Nat) (mod : Int32) (a : Nat → Option Nat), i ≤ m → m < n + i → kc ≤ mc → ks ≤ ms → cu_R LP p adB a (cu_L x i) → wL_xs_16 post mc ms adB n (.inr (x, nI m, nI i, kc, ks, mod, nI i, a, 10, LP, p)) := by
  intro n
  induction n with
  | zero => intro i kc ks mod a h1 h2; omega
  | succ n ih =>
    intro i kc ks mod a h1 h2 h3 h4 hr
    by_cases hi : i = m
    · subst hi
      exact ⟨fun _ => H mod a hr, fun z => absurd (nI_le (Nat.le_refl i) (by omega)) z⟩
    · refine ⟨fun z => absurd z (nI_ge (by omega) (by omega)), fun _ => ⟨0, 0, by omega, by omega, cu_val _ fun y hy => ?_⟩⟩
      refine cm_some ⟨0, 0, by omega, by omega, cu_add (by omega) (by omega) hy.bm ?_⟩
      refine nm_r (nI_1 i) (ih (i + 1) _ _ _ _ (by omega) (by omega) (by omega) (by omega) ?_)
      have hq : cu_R LP p adB (va_up a (cu_L x i).length (some y)) (cu_L x i ++ [cu_v x i]) := cu_R_add hr hy
      rw [cu_L_len] at hq
      exact hq
theorem cu_xs {post : (St2 ⊕ St3) → Prop} {mc ms : Nat} {adB : Nat → Nat} {LP : List Nat} {p : Nat → Int32} {x s : Int32} {m : Nat} (hm : m < 8) (hs : s &&& 7 = nI m) (hmc : 2 ≤ mc) (hms : 13 ≤ ms) (H0 : m = 0 → post (.inl (0, 0, LP, p))) (H : m ≠ 0 → ∀ mod a, cu_R LP p adB a (cu_L x m) → post (.inr (mod, nI m, a, 10, LP, p))) :
    wpL_xs post mc ms adB (LP, p) x s := by
  refine ⟨by omega, by omega, nm_r hs ⟨9, ?_⟩⟩
  by_cases h : m = 0
  · refine ⟨fun _ => H0 h, fun z => absurd ?_ z⟩
    subst h
    exact nI_le (a := 0) (b := 0) (Nat.le_refl 0) (by decide)
  · refine ⟨fun z => absurd z (nI_nle (by omega) (by omega)), fun _ => ⟨0, 0, by omega, by omega, cu_val _ fun y hy => ?_⟩⟩
    refine cm_some ⟨1, 10, by omega, by omega, cu_add1 (by omega) (by omega) hy.bm ?_⟩
    refine nm_r (e' := nI 1) (by decide) (cu_xs16 hm (H h) 8 1 _ _ _ _ (by omega) (by omega) (by omega) (by omega) ?_)
    have hq : cu_R LP p adB (va_up (fun _ => none) ([] : List Int32).length (some y)) ([] ++ [cu_v x 0]) := cu_R_add cu_R_0 hy
    exact hq
/-! ===== the component ===== -/
theorem cu_fw {post : Int32 → St3 → Prop} {adB : Nat → Nat} {b : Int32} {N : Nat} {LP : List Nat} {p : Nat → Int32} (hn : N < 2 ^ 30) : ∀ (n : Nat) (pre t : List Int32) (j i c : Nat) (mod : Int32) (a : Nat → Option Nat), i = pre.length → c = pre.length + t.length → cu_R LP p adB a (pre ++ t) → c ≤ N → t.length < n →
    (∀ mod' a' l' r, l' = pre ++ cu_f b false t → r + l'.length = j + c → cu_R LP p adB a' l' → post (nI r) (mod', nI l'.length, a', N, LP, p)) →
    wX0_cutForward_2_4 post adB b n (nI j) (nI i) mod (nI c) a N LP p := by
  intro n
  induction n with
  | zero => intro pre t j i c mod a _ _ _ _ h; omega
  | succ n ih =>
    intro pre t j i c mod a hi hc hr hl hf H
    subst hi
    cases t with
    | nil =>
      have hc' : c = pre.length := hc
      subst hc'
      refine br_t (nI_le (Nat.le_refl _) (by omega)) ?_
      have k := H mod a pre j (List.append_nil pre).symm rfl (by rw [List.append_nil] at hr; exact hr)
      exact k
    | cons x t =>
      have hc' : c = pre.length + t.length + 1 := hc
      have hf' : t.length + 1 < n + 1 := hf
      obtain ⟨y, hy, hb⟩ := cu_R_mid hr
      refine br_f (nI_ge (by omega) (by omega)) ?_
      refine cu_get hy (by omega) hl (by omega) ?_
      refine cm_some ⟨hb.bm, x, hb, ?_⟩
      by_cases hx : x = b
      · refine br_t hx (cu_rem hr rfl hc' hl (by omega) fun z a' hr' => ?_)
        refine cm_some (nm_r (nI_1 j) (nm_r (nI_1 _) ?_))
        cases t with
        | nil =>
          obtain ⟨n', rfl⟩ : ∃ n', n = n' + 1 := ⟨n - 1, by omega⟩
          have ef : cu_f b false [x] = [] := if_pos hx
          rw [ef] at H
          refine br_t (nI_le (Nat.le_succ _) (by omega)) ?_
          have k := H (mod + 1) a' pre (j + 1) (List.append_nil pre).symm (by rw [hc', List.length_nil]; omega) (by rw [List.append_nil] at hr'; exact hr')
          exact k
        | cons w t =>
          have ef : cu_f b false (x :: w :: t) = w :: cu_f b false t := if_pos hx
          rw [ef] at H
          have el : (w :: t).length = t.length + 1 := rfl
          have ep : (pre ++ [w]).length = pre.length + 1 := by rw [List.length_append]; rfl
          refine ih (pre ++ [w]) t (j + 1) (pre.length + 1) (pre.length + (w :: t).length) (mod + 1) a' ep.symm (by rw [ep, el]; omega) (by rw [List.append_assoc]; exact hr') (by omega) (by omega) ?_
          intro mod' a'' l' r e1 e2 h3
          rw [List.append_assoc] at e1
          exact H mod' a'' l' r e1 (by omega) h3
      · refine br_f hx (nm_r (nI_1 _) ?_)
        have ef : cu_f b false (x :: t) = x :: cu_f b false t := if_neg hx
        rw [ef] at H
        have ep : (pre ++ [x]).length = pre.length + 1 := by rw [List.length_append]; rfl
        refine ih (pre ++ [x]) t j (pre.length + 1) c mod a ep.symm (by rw [ep]; omega) (by rw [List.append_assoc]; exact hr) hl (by omega) ?_
        intro mod' a'' l' r e1 e2 h3
        rw [List.append_assoc] at e1
        exact H mod' a'' l' r e1 e2 h3
theorem cu_X0 {post : Int32 → St3 → Prop} {adB : Nat → Nat} {b mod : Int32} {N c : Nat} {a : Nat → Option Nat} {LP : List Nat} {p : Nat → Int32} {l : List Int32} (hn : N < 2 ^ 30) (hr : cu_R LP p adB a l) (hc : c = l.length) (hl : c ≤ N)
    (H : ∀ mod' a' l' r, l' = cu_f b false l → r + l'.length = c → cu_R LP p adB a' l' → post (nI r) (mod', nI l'.length, a', N, LP, p)) : wpX0_cutForward_2 post adB (mod, nI c, a, N, LP, p) b :=
  ⟨l.length + 1, cu_fw hn (l.length + 1) [] l 0 0 c mod a rfl (by rw [hc, List.length_nil, Nat.zero_add]) hr hl (by omega) (fun mod' a' l' r e1 e2 h3 => H mod' a' l' r e1 (by omega) h3)⟩
/-! ===== the twin ===== -/
theorem cu_p5 {post : Int32 → Prop} {adB : Nat → Nat} {b mod : Int32} {c N : Nat} {a : Nat → Option Nat} {LP : List Nat} {p : Nat → Int32} (hl : c ≤ N) (hn : N < 2 ^ 30) : ∀ (n : Nat) (pre suf : List Int32) (j : Nat) (x4 : Int32), cu_R LP p adB a (pre ++ suf) → pre.length ≤ c → pre.length < n → x4 = nI pre.length + (-1) → post (nI (j + cu_n b 0 pre)) →
    wX1_placeInRun_2_5 post adB b mod (nI c) a N LP p n (nI j) x4 := by
  intro n
  induction n with
  | zero => intro pre suf j x4 _ _ h; omega
  | succ n ih =>
    intro pre suf j x4 hr hp hf hx H
    rcases List.eq_nil_or_concat pre with e | ⟨q, x, e⟩
    · subst e
      have hx' : x4 = -1 := hx.trans (by decide)
      subst hx'
      exact br_t (by decide) H
    · rw [List.concat_eq_append] at e
      subst e
      have ep : (q ++ [x]).length = q.length + 1 := by rw [List.length_append]; rfl
      rw [ep, pk_m1] at hx
      rw [ep] at hp hf
      subst hx
      rw [List.append_assoc] at hr
      have hr' : cu_R LP p adB a (q ++ x :: suf) := hr
      obtain ⟨y, hy, hb⟩ := cu_R_mid hr'
      rw [cu_n_snoc] at H
      refine br_f (nI_pos (by omega)) (cu_get hy (by omega) hl (by omega) (cm_some ⟨hb.bm, x, hb, ?_⟩))
      by_cases h : x = b
      · have es : cu_s b x (cu_n b 0 q) = cu_n b 0 q + 1 := if_pos h
        rw [es] at H
        refine br_t h (nm_r (nI_1 j) (nm_e (ih q (x :: suf) (j + 1) _ hr' (by omega) (by omega) rfl ?_)))
        rw [show j + 1 + cu_n b 0 q = j + (cu_n b 0 q + 1) by omega]
        exact H
      · have es : cu_s b x (cu_n b 0 q) = 0 := if_neg h
        rw [es] at H
        exact br_f h H
theorem cu_place {post : Int32 → Prop} {adB : Nat → Nat} {b mod : Int32} {c N i : Nat} {a : Nat → Option Nat} {LP : List Nat} {p : Nat → Int32} {q suf : List Int32} {x : Int32} (hl : c ≤ N) (hn : N < 2 ^ 30) (hr : cu_R LP p adB a (q ++ x :: suf)) (hi : i = q.length) (hc : i < c) (H : post (nI (cu_n b 0 (q ++ [x])))) :
    wpX1_placeInRun_2 post adB (mod, nI c, a, N, LP, p) (nI i) b := by
  have ep : (q ++ [x]).length = q.length + 1 := by rw [List.length_append]; rfl
  refine ⟨q.length + 2, cu_p5 hl hn (q.length + 2) (q ++ [x]) suf 0 (nI i) (by rw [List.append_assoc]; exact hr) (by omega) (by omega) (by rw [ep, pk_m1, hi]) ?_⟩
  rw [Nat.zero_add]
  exact H
theorem cu_bw {post : Int32 → St3 → Prop} {adB : Nat → Nat} {b : Int32} {N M : Nat} {LP : List Nat} {p : Nat → Int32} (hn : N < 2 ^ 30) : ∀ (n : Nat) (pre t : List Int32) (c : Nat) (mod x3 : Int32) (a : Nat → Option Nat), c = pre.length + (cu_t b (cu_n b 0 pre) t).length → x3 = nI pre.length + (-1) → cu_R LP p adB a (pre ++ cu_t b (cu_n b 0 pre) t) → c ≤ N → pre.length < n →
    (∀ mod' a' l', l' = cu_t b 0 (pre ++ t) → cu_R LP p adB a' l' → post (nI M - nI l'.length) (mod', nI l'.length, a', N, LP, p)) →
    wX1_cutForward_2_11 post adB b (nI M) n x3 mod (nI c) a N LP p := by
  intro n
  induction n with
  | zero => intro pre t c mod x3 a _ _ _ _ h; omega
  | succ n ih =>
    intro pre t c mod x3 a hc hx hr hl hf H
    rcases List.eq_nil_or_concat pre with e | ⟨q, x, e⟩
    · subst e
      have hx' : x3 = -1 := hx.trans (by decide)
      subst hx'
      have hc' : c = (cu_t b 0 t).length := hc.trans (Nat.zero_add _)
      subst hc'
      exact br_t (by decide) (H mod a (cu_t b 0 t) rfl hr)
    · rw [List.concat_eq_append] at e
      subst e
      have ep : (q ++ [x]).length = q.length + 1 := by rw [List.length_append]; rfl
      rw [ep, pk_m1] at hx
      rw [ep] at hc hf
      subst hx
      rw [List.append_assoc] at hr H
      have hr' : cu_R LP p adB a (q ++ x :: cu_t b (cu_n b 0 (q ++ [x])) t) := hr
      have hN := cu_n_le b (q ++ [x]) 0
      rw [ep] at hN
      refine br_f (nI_pos (by omega)) (cu_place hl hn hr' rfl (by omega) ⟨by decide, ?_⟩)
      have er : nI (cu_n b 0 (q ++ [x])) - nI (cu_n b 0 (q ++ [x])) / 2 * 2 = nI (cu_n b 0 (q ++ [x]) % 2) := pk_rem (d := 2) (by omega) (by decide) (by decide)
      have et : cu_t b (cu_n b 0 q) (x :: t) = if cu_n b 0 (q ++ [x]) % 2 = 1 then cu_t b (cu_n b 0 (q ++ [x])) t else x :: cu_t b (cu_n b 0 (q ++ [x])) t := by
        rw [cu_n_snoc]
        exact cu_t_cons b x _ t
      by_cases h : cu_n b 0 (q ++ [x]) % 2 = 1
      · rw [if_pos h] at et
        refine br_t (er.trans (by rw [h]; rfl)) (cu_rem hr' rfl (by omega) hl (by omega) fun y a' hr2 => ?_)
        rw [← et] at hr2 ⊢
        refine cm_some (nm_e (ih q (x :: t) _ _ _ a' rfl rfl hr2 ?_ (by omega) H))
        rw [et]
        omega
      · rw [if_neg h] at et
        refine br_f (fun z => h ((nI_eq (b := 1) (by omega) (by decide)).mp (er.symm.trans z))) (nm_e (ih q (x :: t) c _ _ a ?_ rfl ?_ hl (by omega) H))
        · rw [et, List.length_cons]
          omega
        · rw [et]
          exact hr'
theorem cu_X1 {post : Int32 → St3 → Prop} {adB : Nat → Nat} {b mod : Int32} {N c : Nat} {a : Nat → Option Nat} {LP : List Nat} {p : Nat → Int32} {l : List Int32} (hn : N < 2 ^ 30) (hr : cu_R LP p adB a l) (hc : c = l.length) (hl : c ≤ N)
    (H : ∀ mod' a' l', l' = cu_t b 0 l → cu_R LP p adB a' l' → post (nI c - nI l'.length) (mod', nI l'.length, a', N, LP, p)) : wpX1_cutForward_2 post adB (mod, nI c, a, N, LP, p) b := by
  refine nm_e ⟨l.length + 1, cu_bw hn (l.length + 1) l [] c mod _ a ?_ ?_ ?_ hl (by omega) ?_⟩
  · exact hc
  · rw [hc]
    exact Int32.sub_eq_add_neg _ _
  · show cu_R LP p adB a (l ++ [])
    rw [List.append_nil]
    exact hr
  · rw [List.append_nil]
    exact H
/-! ===== the two lists are one ===== -/
theorem cu_eq {post : Int32 → Prop} {adB : Nat → Nat} {mod mod2 : Int32} {c N N2 : Nat} {a a2 : Nat → Option Nat} {LP : List Nat} {p : Nat → Int32} {l : List Int32} (hr : cu_R LP p adB a l) (hr2 : cu_R LP p adB a2 l) (hc : c = l.length) (hl : c ≤ N) (hl2 : c ≤ N2) (hn : N < 2 ^ 30) (hn2 : N2 < 2 ^ 30) (H : post 1) :
    wpL_eqLists_4 post adB (mod, nI c, a, N, mod2, nI c, a2, N2, LP, p) := by
  refine br_t rfl ⟨c + 1, ?_⟩
  have main : ∀ n i, i ≤ c → c < n + i → wL_eqLists_4_19 post adB mod (nI c) a N mod2 (nI c) a2 N2 LP p n (nI i) := by
    intro n
    induction n with
    | zero => intro i h1 h2; omega
    | succ n ih =>
      intro i h1 h2
      by_cases hi : i = c
      · rw [hi]
        exact br_t (nI_le (Nat.le_refl _) (by omega)) H
      · have hil : i < l.length := by omega
        obtain ⟨y, hy, hb⟩ := hr i l[i] (List.getElem?_eq_getElem hil)
        obtain ⟨y2, hy2, hb2⟩ := hr2 i l[i] (List.getElem?_eq_getElem hil)
        refine br_f (nI_ge (by omega) (by omega)) (cu_get hy (by omega) hl (by omega) (cm_some ⟨hb.bm, cu_get hy2 (by omega) hl2 (by omega) (cm_some ?_)⟩))
        refine ⟨hb2.bm, _, hb, _, hb2, br_t rfl ?_⟩
        exact br_f (by decide) (nm_r (nI_1 i) (ih (i + 1) (by omega) (by omega)))
  exact main (c + 1) 0 (Nat.zero_le _) (by omega)
end
section
theorem cu_law {adB : Nat → Nat} {LP : List Nat} {p : Nat → Int32} (x s w : Int32) : wpL_lawOf (fun r u => match u with | (_, _) => r = 1) 4 26 adB (LP, p) x s w := by
  obtain ⟨m, hm, hs⟩ := pk_andE s (m := 7) 3 (by decide)
  refine ⟨2, 13, by omega, by omega, cu_xs hm hs (by omega) (by omega) (fun h0 => ?_) (fun h0 mod a hr => ?_)⟩
  · refine ⟨2, 13, by omega, by omega, cu_xs hm hs (by omega) (by omega) (fun _ => ?_) (fun h1 => absurd h0 h1)⟩
    refine nm_e ⟨1, br_t (by decide) ?_⟩
    refine nm_e ⟨1, br_t (by decide) ?_⟩
    refine br_t (by decide) ?_
    refine br_t rfl ⟨1, br_t (by decide) ?_⟩
    exact br_f (by decide) rfl
  · refine ⟨2, 13, by omega, by omega, cu_xs hm hs (by omega) (by omega) (fun h1 => absurd h1 h0) (fun _ mod2 a2 hr2 => ?_)⟩
    have hL := cu_L_len x m
    refine nm_e (cu_X0 (by omega) hr hL.symm (by omega) fun m1 a1 l1 r e1 e2 h1 => ?_)
    refine cu_X1 (by omega) hr2 hL.symm (by omega) fun m3 a3 l3 e3 h3 => ?_
    rw [cu_ft _ _ 0 false ⟨fun z => (by cases z), fun z => absurd z (by decide)⟩] at e1
    have e13 : l3 = l1 := e3.trans e1.symm
    subst e13
    refine br_t ?_ (cu_eq h1 h3 rfl (by omega) (by omega) (by omega) (by omega) ?_)
    · rw [pk_sub (by omega), show m - l3.length = r by omega]
    · exact br_f (by decide) rfl
theorem cu_cell {post : Int32 → Prop} {L : Nat} {xs : Nat → Int32} (k : Nat) (hL : L ≤ 3) (hk : k < 3) (h : ∀ r, post r) : wpL_cellAt post L xs () (nI k) :=
  pk_le L k (fun _ => h _) (fun z => ⟨vp_in_nI z (by omega), h _⟩)
theorem i_vc (xs : Nat → Int32) (L : Nat) (hL : L ≤ 3) : wpL_law (fun r => r = 1) L xs := by
  intro adB
  refine cu_cell 0 hL (by decide) fun r1 => ?_
  refine cu_cell 1 hL (by decide) fun r2 => ?_
  refine cu_cell 2 hL (by decide) fun r3 => ?_
  exact ⟨4, 26, by omega, by omega, cu_law r1 r2 r3⟩
end
