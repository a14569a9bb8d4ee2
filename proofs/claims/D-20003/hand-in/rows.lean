section
/-! Members of the JDK: the rows sc_* and sv_* are taken from the kit's laws (STRING-CONSTANT-LAWS.2, STRINGBUILDER-LAWS.1), sv_new turned to this claim's two ways out; tb_* are ours. -/
/-- every literal: its length is its byte list's, every entry is a byte -/
theorem sc_all : ∀ i, i < nJS → (lenJS.getD i 0 = (bytJS.getD i []).length ∧ (bytJS.getD i []).length < 2 ^ 31 ∧ ∀ b ∈ bytJS.getD i [], b.toInt8.toInt32 = b) := by decide +kernel
/-- indexOf on what is left of a text, from place k on -/
def sc_ixF (c : Int32) : List Int32 → Nat → Int32
  | [], _ => -1
  | b :: l, k => if b &&& 255 = c then nI k else sc_ixF c l (k + 1)
/-- indexOf -/
def sc_ix (i : Nat) (c : Int32) : Int32 := sc_ixF c (bytJS.getD i []) 0
theorem sc_ixF_out {c : Int32} (h : ∀ b : Int32, ¬ b &&& 255 = c) : ∀ (l : List Int32) (k : Nat), sc_ixF c l k = -1 := by
  intro l
  induction l with
  | nil => intro k; rfl
  | cons b l ih => intro k; rw [sc_ixF, if_neg (h b)]; exact ih (k + 1)
theorem sc_ixLoop {post : Int32 → Prop} {i : Nat} (hi : i < nJS) {n : Nat} (hn : n < 256) : ∀ (l : List Int32) (k : Nat), k ≤ lenJS.getD i 0 → (bytJS.getD i []).drop k = l → post (sc_ixF (nI n) l k) → wJ1_indexOfChar_4cfef_9ff85_7 post (nI (lenJS.getD i 0)) (nI n).toInt8.toInt32 i (l.length + 1) (nI k) := by
  obtain ⟨hl, hL, hb⟩ := sc_all i hi
  intro l
  induction l with
  | nil =>
    intro k hk e h
    have q : (bytJS.getD i []).length ≤ k := List.drop_eq_nil_iff.mp e
    exact br_t (nI_le (by omega) (by omega)) h
  | cons b l ih =>
    intro k hk e h
    obtain ⟨h1, h2, h3, h4⟩ := sc_dropC e
    refine br_f (nI_ge (by omega) (by omega)) ⟨hi, vp_in_nI (by omega) (by omega), ?_⟩
    rw [nI_clamp (by omega), h2]
    rw [sc_ixF] at h
    by_cases hc : b &&& 255 = nI n
    · rw [if_pos hc] at h
      exact br_t ((sc_eq (hb b h4) hn).mpr hc) h
    · rw [if_neg hc] at h
      refine br_f (fun z => hc ((sc_eq (hb b h4) hn).mp z)) (fun x ex => ?_)
      rw [ex, ← nI_succ]
      exact ih (k + 1) (by omega) h3 h
/-- indexOf(c), any c -/
theorem sc_indexOf {post : Int32 → Prop} {u : StJ02238} {i : Nat} {c : Int32} (hi : i < nJS) (h : post (sc_ix i c)) : wpJ0_indexOf_0f7a4_7076d post u i c := by
  obtain ⟨hl, hL, hb⟩ := sc_all i hi
  refine ⟨hi, hi, hi, br_f (by decide) ⟨hi, hi, ?_⟩⟩
  show wpJ1_indexOf_4cfef_9ff85 (fun r => post r) () i c 0 (nI (lenJS.getD i 0) >>> ((0 : Int32) &&& 31))
  rw [sc_shr0 (by omega)]
  have out : (c < 0 ∨ 255 < c) → post (-1) := by
    intro z
    have o : sc_ix i c = -1 := by
      refine sc_ixF_out (fun b e => ?_) _ _
      obtain ⟨j, hj, e2⟩ := pk_andE b (m := 255) 8 (by decide)
      rw [← e, e2] at z
      rcases z with z | z
      · exact nI_pos (by omega) z
      · exact nI_nlt (a := 255) (b := j) (by omega) (by omega) z
    rw [o] at h
    exact h
  refine br_c (fun h0 => br_t rfl (out (Or.inl h0))) (fun h0 => br_c (fun h1 => br_t rfl (out (Or.inr h1))) (fun h1 => br_f (by decide) ?_))
  obtain ⟨n, hn, rfl⟩ := nI_of h0
  have h256 : n < 256 := by
    rcases Nat.lt_or_ge n 256 with q | q
    · exact q
    · exact absurd (nI_lt (a := 255) (b := n) (by omega) hn) h1
  refine nm_r (e' := (0 : Int32)) (by decide) ⟨hi, nm_r (e' := nI (lenJS.getD i 0)) (ite_self _) ?_⟩
  refine pk_lt 0 (lenJS.getD i 0) (fun q => ⟨_, sc_ixLoop hi h256 _ 0 (Nat.zero_le _) rfl h⟩) (fun q => ?_) rfl rfl (by omega) (by omega)
  have e : bytJS.getD i [] = [] := List.length_eq_zero_iff.mp (by omega)
  rw [sc_ix, e] at h
  exact h
theorem sv_length {post : Int32 → Prop} {h z : Int32} {a : Nat → Int32} {n : Nat} (hp : post (nI n)) : wpJ0_length_8abf5_6a20e post (0, h, z, a, n) :=
  ⟨by decide, Eq.mpr (congrArg post (sb_shr0 (Int32.ofNat n))) hp⟩
theorem sv_check {post : Unit → Prop} {i n : Nat} (hi : i < n) (hn : n < 2 ^ 31) (hp : post ()) : wpJ0_checkIndex_df160_48e5c post () (nI i) (nI n) :=
  ⟨br_f (nI_pos (by omega)) (br_t (nI_lt hi hn) hp), br_f (nI_pos (by omega)) (br_t (nI_lt hi hn) hp)⟩
/-- String.charAt of a Latin-1 text -/
theorem sv_charAt {post : Int32 → Prop} {h z : Int32} {t : Nat → Nat} {a : Nat → Int32} {n i : Nat} (hn : n ≤ 65536) (hL : sb_Lat t n a) (hi : i < n) (hp : post (nI (t i))) : wpJ0_charAt_5068e_f8cf6 post (0, h, z, a, n) (nI i) := by
  obtain ⟨h1, h2⟩ := hL i hi
  obtain ⟨b1, b2, -⟩ := sb_byte _ h1
  have hc := (pk_charN (q := t i) (by omega)).1
  refine br_t rfl (br_f (by decide) ?_)
  rw [wpJ1_charAt_3b067_49ada]
  refine sv_check hi (by omega) ⟨vp_in_nI hi (by omega), ?_⟩
  rw [nI_clamp (by omega), h2, b1, b2]
  exact ⟨hc, hc, hp⟩
theorem sv_compress {P : Int32 → StJbedf7 → Prop} {t : Nat → Nat} {b : Nat → Int32} {n : Nat} (hn : n ≤ 65536) (ht : ∀ j, j < n → t j < 256 ∧ b j = nI (t j)) (hP : ∀ a', sb_Lat t n a' → sb_Fit a' → P (nI n) (b, n, a', n)) :
    ∀ (d k : Nat) (a : Nat → Int32), k + d = n → sb_Lat t k a → sb_Fit a → wJ2_compress_fe38e_1fd7f_3 P (nI n) n n (d + 1) (nI k) (nI k) (nI k) b a := by
  intro d
  induction d with
  | zero =>
    intro k a hk hL hf
    rw [wJ2_compress_fe38e_1fd7f_3]
    refine br_t ((nI_leI (by omega) (by omega)).mpr (by omega)) (hP a ?_ hf)
    rw [← show k = n by omega]
    exact hL
  | succ d ih =>
    intro k a hk hL hf
    obtain ⟨b1, b2⟩ := ht k (by omega)
    obtain ⟨-, -, b3⟩ := sb_byte _ b1
    rw [wJ2_compress_fe38e_1fd7f_3]
    refine br_f (nI_ge (by omega) (by omega)) ⟨vp_in_nI (by omega) (by omega), nm_r (e' := nI (t k)) (by rw [nI_clamp (by omega), b2]) (br_t b3 ⟨vp_in_nI (by omega) (by omega), ?_⟩)⟩
    refine nm_r (e' := upd a k (sb_b (t k))) (by rw [nI_clamp (by omega), pk_vb]; rfl) (nm_r (nI_1 k) (nm_r (nI_1 k) (nm_r (nI_1 k) ?_)))
    refine ih (k + 1) _ (by omega) (fun j hj => ?_) (sb_fitU hf (sb_fitB _))
    by_cases e : j = k
    · subst e
      exact ⟨b1, pk_us⟩
    · rw [pk_un e]
      exact hL j (by omega)
/-- new String(char[]) of n Latin-1 letters, n not 0 -/
theorem sv_new {post : (StJ0f59a ⊕ StJ64b40) → Prop} {mc ms : Nat} {c h z : Int32} {t : Nat → Nat} {b : Nat → Int32} {n : Nat} (h0 : 0 < n) (hn : n ≤ 65536) (ht : ∀ j, j < n → t j < 256 ∧ b j = nI (t j)) (hmc : 1 ≤ mc) (hms : n ≤ ms)
    (hp : ∀ a', sb_Lat t n a' → sb_Fit a' → post (.inl (0, h, z, a', n, b, n))) : wpJ0_init_905df_fc072 post mc ms (c, h, z, b, n) := by
  refine ⟨mc, ms, by omega, by omega, br_f (nI_ne0 h0 (by omega)) ⟨mc, ms, by omega, by omega, nI_pos (by omega), nm_r (nI_clamp (by omega)) ⟨by omega, hmc, by omega, n + 1, ?_⟩⟩⟩
  refine sv_compress hn ht (fun a' hL hf => ?_) n 0 _ (by omega) (fun j hj => absurd hj (Nat.not_lt_zero j)) sb_fit0
  refine br_t rfl ⟨pk_nb _, ?_⟩
  have e1 : (((Int32.ofNat n - Int32.ofNat n).toUInt32 >>> ((31 : Int32).toUInt32 &&& Int32.toUInt32 31)).toInt32).toInt8.toInt32 = 0 := by
    rw [Int32.sub_self]
    decide
  rw [e1]
  exact ⟨by decide, by decide, hp a' hL hf⟩
/-- new String(char[0]): the bytes of "" -/
theorem tb_new0 {post : (StJ0f59a ⊕ StJ64b40) → Prop} {mc ms : Nat} {c h z : Int32} {b : Nat → Int32} (hp : post (.inr (0, h, z, b, 0))) : wpJ0_init_905df_fc072 post mc ms (c, h, z, b, 0) :=
  ⟨mc, ms, by omega, by omega, br_t rfl hp⟩
/-- StringLatin1.inflate -/
theorem tb_infl {P : StJ0dc2b → Prop} {t : Nat → Nat} {a : Nat → Int32} {n : Nat} (hn : n ≤ 65536) (hL : sb_Lat t n a) (hP : ∀ b, (∀ j, j < n → b j = nI (t j)) → P (a, n, b, n)) :
    ∀ (d k : Nat) (b : Nat → Int32), k + d = n → (∀ j, j < k → b j = nI (t j)) → wJ1_inflate_03870_7f7be_3 P (nI n) n n (d + 1) (nI k) (nI k) (nI k) a b := by
  intro d
  induction d with
  | zero =>
    intro k b hk hb
    rw [wJ1_inflate_03870_7f7be_3]
    exact br_t ((nI_leI (by omega) (by omega)).mpr (by omega)) (hP b (fun j hj => hb j (by omega)))
  | succ d ih =>
    intro k b hk hb
    obtain ⟨b1, b2⟩ := hL k (by omega)
    obtain ⟨c1, c2, -⟩ := sb_byte _ b1
    rw [wJ1_inflate_03870_7f7be_3]
    refine br_f (nI_ge (by omega) (by omega)) (nm_r (nI_1 k) (nm_r (nI_1 k) ⟨vp_in_nI (by omega) (by omega), vp_in_nI (by omega) (by omega), ?_⟩))
    refine nm_r (e' := upd b k (nI (t k))) (by rw [nI_clamp (by omega), pk_vc, b2, c1, c2]) (nm_r (nI_1 k) ?_)
    refine ih (k + 1) _ (by omega) (fun j hj => ?_)
    by_cases e : j = k
    · subst e
      exact pk_us
    · rw [pk_un e]
      exact hb j (by omega)
/-- String.toCharArray of a Latin-1 text -/
theorem tb_chars {post : StJ0f59a → Prop} {mc ms : Nat} {h z : Int32} {t : Nat → Nat} {a : Nat → Int32} {n : Nat} (hn : n ≤ 65536) (hL : sb_Lat t n a) (hmc : 1 ≤ mc) (hms : n ≤ ms)
    (hp : ∀ b, (∀ j, j < n → b j = nI (t j)) → post (0, h, z, a, n, b, n)) : wpJ0_toCharArray_70df3_e59ac post mc ms (0, h, z, a, n) := by
  refine br_t rfl (br_f (by decide) ⟨mc, ms, by omega, by omega, nI_pos (by omega), nm_r (nI_clamp (by omega)) ⟨by omega, hmc, by omega, n + 1, ?_⟩⟩)
  exact tb_infl hn hL hp n 0 _ (by omega) (fun j hj => absurd hj (Nat.not_lt_zero j))
end
section
/-! The picture: a run over a list of chars with a stack of awaited closing brackets; none: failed. -/
def tb_st : Option (List Int32) → Int32 → Option (List Int32)
  | none, _ => none
  | some s, c =>
    if c = 40 then some (41 :: s) else if c = 91 then some (93 :: s) else if c = 123 then some (125 :: s)
    else if c = 41 ∨ c = 93 ∨ c = 125 then (match s with | [] => none | x :: r => if x = c then some r else none)
    else some s
/-- the chars a k .. a (k + m - 1) -/
def tb_L (a : Nat → Int32) : Nat → Nat → List Int32
  | _, 0 => []
  | k, m + 1 => a k :: tb_L a (k + 1) m
def tb_fin (o : Option (List Int32)) : Int32 := if o = some [] then 1 else 0
/-- whether the brackets are balanced -/
def tb_ans (l : List Int32) : Int32 := tb_fin (l.foldl tb_st (some []))
/-- an opening bracket and its closing one -/
def tb_pr (a b : Int32) : Prop := (a = 40 ∧ b = 41) ∨ (a = 91 ∧ b = 93) ∨ (a = 123 ∧ b = 125)
def tb_br (c : Int32) : Prop := c = 40 ∨ c = 41 ∨ c = 91 ∨ c = 93 ∨ c = 123 ∨ c = 125
def tb_cl (c : Int32) : Prop := c = 41 ∨ c = 93 ∨ c = 125
theorem tb_none (l : List Int32) : l.foldl tb_st none = none := by
  induction l with
  | nil => rfl
  | cons c l ih => exact ih
theorem tb_cl0 {c : Int32} (h : tb_cl c) : tb_st (some []) c = none := by
  rcases h with rfl | rfl | rfl <;> rfl
theorem tb_clm {c : Int32} {s : List Int32} (h : tb_cl c) : tb_st (some (c :: s)) c = some s := by
  rcases h with rfl | rfl | rfl <;> rfl
theorem tb_clo {c x : Int32} {s : List Int32} (h : tb_cl c) (hx : ¬ x = c) : tb_st (some (x :: s)) c = none := by
  have e : tb_st (some (x :: s)) c = if x = c then some s else none := by
    rcases h with rfl | rfl | rfl <;> rfl
  rw [e, if_neg hx]
theorem tb_oth {c : Int32} {s : List Int32} (h1 : ¬ c = 40) (h2 : ¬ c = 41) (h3 : ¬ c = 91) (h4 : ¬ c = 93) (h5 : ¬ c = 123) (h6 : ¬ c = 125) : tb_st (some s) c = some s := by
  unfold tb_st
  dsimp only
  rw [if_neg h1, if_neg h3, if_neg h5, if_neg (fun z => z.elim h2 (fun z => z.elim h4 h6))]
theorem tb_pair {a b : Int32} (h : tb_pr a b) (o : Option (List Int32)) : tb_st (tb_st o a) b = o := by
  cases o with
  | none => rfl
  | some s => rcases h with ⟨rfl, rfl⟩ | ⟨rfl, rfl⟩ | ⟨rfl, rfl⟩ <;> rfl
theorem tb_skip {c : Int32} (h : c = 120 ∨ c = 32) (o : Option (List Int32)) : tb_st o c = o := by
  cases o with
  | none => rfl
  | some s => rcases h with rfl | rfl <;> rfl
theorem tb_L_add (a : Nat → Int32) : ∀ m k p, tb_L a k (m + p) = tb_L a k m ++ tb_L a (k + m) p := by
  intro m
  induction m with
  | zero =>
    intro k p
    rw [Nat.zero_add]
    rfl
  | succ m ih =>
    intro k p
    rw [show m + 1 + p = (m + p) + 1 by omega]
    show a k :: tb_L a (k + 1) (m + p) = a k :: (tb_L a (k + 1) m ++ tb_L a (k + (m + 1)) p)
    rw [ih, show k + 1 + m = k + (m + 1) by omega]
theorem tb_L_eq {a b : Nat → Int32} : ∀ m k k', (∀ j, j < m → a (k + j) = b (k' + j)) → tb_L a k m = tb_L b k' m := by
  intro m
  induction m with
  | zero => intro k k' _; rfl
  | succ m ih =>
    intro k k' h
    show a k :: tb_L a (k + 1) m = b k' :: tb_L b (k' + 1) m
    rw [show a k = b k' from h 0 (by omega), ih (k + 1) (k' + 1) (fun j hj => ?_)]
    have z := h (j + 1) (by omega)
    rw [show k + (j + 1) = k + 1 + j by omega, show k' + (j + 1) = k' + 1 + j by omega] at z
    exact z
theorem tb_L_snoc (a : Nat → Int32) (q : Nat) (c : Int32) : tb_L (upd a q c) 0 (q + 1) = tb_L a 0 q ++ [c] := by
  rw [tb_L_add, Nat.zero_add, tb_L_eq (a := upd a q c) (b := a) q 0 0 (fun j hj => pk_un (by omega))]
  show tb_L a 0 q ++ [upd a q c q] = tb_L a 0 q ++ [c]
  rw [pk_us]
/-- a pair of neighbours taken away -/
theorem tb_red {a b : Nat → Int32} {q i : Nat} (hq : i + 2 ≤ q) (hp : tb_pr (a i) (a (i + 1))) (h1 : ∀ j, j < i → b j = a j) (h2 : ∀ j, i ≤ j → j + 2 < q → b j = a (j + 2)) : tb_ans (tb_L b 0 (q - 2)) = tb_ans (tb_L a 0 q) := by
  obtain ⟨r, rfl⟩ : ∃ r, q = i + (r + 2) := ⟨q - 2 - i, by omega⟩
  rw [show i + (r + 2) - 2 = i + r by omega, tb_L_add, tb_L_add, Nat.zero_add]
  have e1 : tb_L b 0 i = tb_L a 0 i := tb_L_eq i 0 0 (fun j hj => by rw [Nat.zero_add]; exact h1 j hj)
  have e2 : tb_L b i r = tb_L a (i + 2) r := tb_L_eq r i (i + 2) (fun j hj => by rw [h2 (i + j) (by omega) (by omega)]; exact congrArg a (by omega))
  have e3 : tb_L a i (r + 2) = a i :: a (i + 1) :: tb_L a (i + 2) r := rfl
  rw [e1, e2, e3]
  unfold tb_ans
  rw [List.foldl_append, List.foldl_append, List.foldl_cons, List.foldl_cons, tb_pair hp]
theorem tb_skipL {c : Int32} (h : c = 120 ∨ c = 32) (p l : List Int32) : tb_ans (p ++ c :: l) = tb_ans (p ++ l) := by
  unfold tb_ans
  rw [List.foldl_append, List.foldl_append, List.foldl_cons, tb_skip h]
/-- brackets without a pair of neighbours, behind an open one: never balanced -/
theorem tb_irr1 {a : Nat → Int32} {q : Nat} (hn : ∀ j, j + 1 < q → ¬ tb_pr (a j) (a (j + 1))) (hb : ∀ j, j < q → tb_br (a j)) :
    ∀ m k x s, k + m = q → (0 < m → ¬ x = a k) → (tb_L a k m).foldl tb_st (some (x :: s)) ≠ some [] := by
  intro m
  induction m with
  | zero =>
    intro k x s _ _ h
    exact absurd (Option.some.inj h) (List.cons_ne_nil x s)
  | succ m ih =>
    intro k x s hk hx
    have hx' := hx (by omega)
    have nx : ∀ y, tb_pr (a k) y → 0 < m → ¬ y = a (k + 1) := fun y hy hm e => hn k (by omega) (e ▸ hy)
    show (tb_L a (k + 1) m).foldl tb_st (tb_st (some (x :: s)) (a k)) ≠ some []
    have clo : tb_cl (a k) → (tb_L a (k + 1) m).foldl tb_st (tb_st (some (x :: s)) (a k)) ≠ some [] := by
      intro h
      rw [tb_clo h hx', tb_none]
      exact fun z => absurd z.symm (Option.some_ne_none _)
    rcases hb k (by omega) with e | e | e | e | e | e
    · have z := ih (k + 1) 41 (x :: s) (by omega) (nx 41 (Or.inl ⟨e, rfl⟩))
      rw [e]
      exact z
    · exact clo (Or.inl e)
    · have z := ih (k + 1) 93 (x :: s) (by omega) (nx 93 (Or.inr (Or.inl ⟨e, rfl⟩)))
      rw [e]
      exact z
    · exact clo (Or.inr (Or.inl e))
    · have z := ih (k + 1) 125 (x :: s) (by omega) (nx 125 (Or.inr (Or.inr ⟨e, rfl⟩)))
      rw [e]
      exact z
    · exact clo (Or.inr (Or.inr e))
/-- brackets without a pair of neighbours are balanced only if there are none -/
theorem tb_irr {a : Nat → Int32} {q : Nat} (hq : q ≠ 0) (hn : ∀ j, j + 1 < q → ¬ tb_pr (a j) (a (j + 1))) (hb : ∀ j, j < q → tb_br (a j)) : tb_ans (tb_L a 0 q) = 0 := by
  obtain ⟨m, rfl⟩ : ∃ m, q = m + 1 := ⟨q - 1, by omega⟩
  show tb_fin ((tb_L a 1 m).foldl tb_st (tb_st (some []) (a 0))) = 0
  have nx : ∀ y, tb_pr (a 0) y → 0 < m → ¬ y = a 1 := fun y hy hm e => hn 0 (by omega) (e ▸ hy)
  have clo : tb_cl (a 0) → tb_fin ((tb_L a 1 m).foldl tb_st (tb_st (some []) (a 0))) = 0 := by
    intro h
    rw [tb_cl0 h, tb_none]
    rfl
  have opn : ∀ y, tb_pr (a 0) y → tb_st (some []) (a 0) = some [y] → tb_fin ((tb_L a 1 m).foldl tb_st (tb_st (some []) (a 0))) = 0 := by
    intro y hy e
    rw [e]
    exact if_neg (tb_irr1 hn hb m 1 y [] (by omega) (nx y hy))
  rcases hb 0 (by omega) with e | e | e | e | e | e
  · exact opn 41 (Or.inl ⟨e, rfl⟩) (by rw [e]; rfl)
  · exact clo (Or.inl e)
  · exact opn 93 (Or.inr (Or.inl ⟨e, rfl⟩)) (by rw [e]; rfl)
  · exact clo (Or.inr (Or.inl e))
  · exact opn 125 (Or.inr (Or.inr ⟨e, rfl⟩)) (by rw [e]; rfl)
  · exact clo (Or.inr (Or.inr e))
end
section
/-! The class: TextScans.balanced -/
/-- the array a holds the stack (its top is the list's head) -/
def tb_Sk (a : Nat → Int32) : List Int32 → Prop
  | [] => True
  | x :: s => a s.length = x ∧ tb_Sk a s
theorem tb_Sk_up {a : Nat → Int32} {k : Nat} {v : Int32} : ∀ s : List Int32, s.length ≤ k → tb_Sk a s → tb_Sk (upd a k v) s := by
  intro s
  induction s with
  | nil => intro _ _; trivial
  | cons x s ih =>
    intro hl h
    have hl' : s.length + 1 ≤ k := hl
    exact ⟨by rw [pk_un (by omega)]; exact h.1, ih (by omega) h.2⟩
/-- a closing bracket -/
theorem tb_x129 {post : Int32 → St1 → Prop} {mc ms : Nat} {J21 : Int32 → Int32 → (Nat → Int32) → (Nat → Int32) → (Nat → Int32) → Prop} {x4 c : Int32} {kc ks : Nat} {f0 f1 f2 : Int32} {am101 am4 am102 : Nat → Int32} {nm101 nm4 nm102 k : Nat} {st : List Int32}
    (hc : tb_cl c) (hs : tb_Sk am4 st) (hl : st.length ≤ nm4) (hN : nm4 ≤ 65536)
    (H0 : tb_st (some st) c = none → post 0 (f0, f1, f2, am101, nm101))
    (H1 : ∀ s : List Int32, s.length ≤ st.length → tb_st (some st) c = some s → tb_Sk am4 s → J21 (nI s.length) (nI (k + 1)) am101 am4 am102) :
    wX1_balanced_129 post mc ms J21 (nI st.length) x4 (nI k) c kc ks f0 f1 f2 am101 nm101 am4 nm4 am102 nm102 := by
  unfold wX1_balanced_129
  cases st with
  | nil => exact br_t rfl (H0 (tb_cl0 hc))
  | cons x s =>
    have hl' : s.length + 1 ≤ nm4 := hl
    rw [List.length_cons]
    refine br_f (nI_ne0 (Nat.succ_pos _) (by omega)) (nm_r (pk_m1 s.length) ⟨vp_in_nI (by omega) (by omega), ?_⟩)
    rw [nI_clamp (by omega), hs.1]
    by_cases e : x = c
    · exact br_t e (nm_r (nI_1 k) (H1 s (Nat.le_succ _) (by rw [e]; exact tb_clm hc) hs.2))
    · exact br_f e (H0 (tb_clo hc e))
/-- the loop -/
theorem tb_x21 {post : Int32 → St1 → Prop} {mc ms kc ks : Nat} {f0 f1 f2 : Int32} {am101 am102 : Nat → Int32} {nm101 n : Nat} (hn : n ≤ 65536) :
    ∀ (m k : Nat) (st : List Int32) (am4 : Nat → Int32), k + m = n → st.length ≤ k → tb_Sk am4 st → post (tb_fin ((tb_L am102 k m).foldl tb_st (some st))) (f0, f1, f2, am101, nm101) →
    wX1_balanced_21 post mc ms (nI n) kc ks f0 f1 f2 nm101 n n (m + 1) (nI st.length) (nI k) am101 am4 am102 := by
  intro m
  induction m with
  | zero =>
    intro k st am4 hk hl hs hp
    rw [wX1_balanced_21]
    refine br_t (nI_le (by omega) (by omega)) ?_
    cases st with
    | nil => exact br_t rfl hp
    | cons x s =>
      have hl' : s.length + 1 ≤ k := hl
      rw [List.length_cons]
      refine br_f (nI_ne0 (Nat.succ_pos _) (by omega)) ?_
      have e : tb_fin (some (x :: s)) = 0 := if_neg (fun z => List.cons_ne_nil x s (Option.some.inj z))
      have hp' : post (tb_fin (some (x :: s))) (f0, f1, f2, am101, nm101) := hp
      rw [e] at hp'
      exact hp'
  | succ m ih =>
    intro k st am4 hk hl hs hp
    rw [wX1_balanced_21]
    refine br_f (nI_ge (by omega) (by omega)) ⟨vp_in_nI (by omega) (by omega), nm_r (e' := am102 k) (by rw [nI_clamp (by omega)]) ?_⟩
    have hp' : post (tb_fin ((tb_L am102 (k + 1) m).foldl tb_st (tb_st (some st) (am102 k)))) (f0, f1, f2, am101, nm101) := hp
    have op : ∀ v : Int32, tb_st (some st) (am102 k) = some (v :: st) → ∀ x2' : Int32, x2' = nI st.length + 1 → (vp_in (nI st.length) n ∧ ∀ am4' : Nat → Int32, am4' = upd am4 (nI st.length).toNatClampNeg v → (∀ x5' : Int32, x5' = nI k + 1 → wX1_balanced_21 post mc ms (nI n) kc ks f0 f1 f2 nm101 n n (m + 1) x2' x5' am101 am4' am102)) := by
      intro v e
      rw [e] at hp'
      exact nm_r (nI_1 _) ⟨vp_in_nI (by omega) (by omega), nm_r (e' := upd am4 st.length v) (by rw [nI_clamp (by omega)]) (nm_r (nI_1 k) (ih (k + 1) (v :: st) _ (by omega) (by rw [List.length_cons]; omega) ⟨pk_us, tb_Sk_up st (Nat.le_refl _) hs⟩ hp'))⟩
    have cl : tb_cl (am102 k) → wX1_balanced_129 post mc ms (wX1_balanced_21 post mc ms (nI n) kc ks f0 f1 f2 nm101 n n (m + 1)) (nI st.length) (nI n) (nI k) (am102 k) kc ks f0 f1 f2 am101 nm101 am4 n am102 n := by
      intro h
      refine tb_x129 h hs (by omega) hn (fun e => ?_) (fun s hsl e hs' => ?_)
      · rw [e, tb_none] at hp'
        exact hp'
      · rw [e] at hp'
        exact ih (k + 1) s am4 (by omega) (by omega) hs' hp'
    exact br_c (fun e => op 41 (by rw [e]; rfl)) (fun n1 => br_c (fun e => cl (Or.inl e)) (fun n2 => br_c (fun e => op 93 (by rw [e]; rfl)) (fun n3 => br_c (fun e => cl (Or.inr (Or.inl e))) (fun n4 => br_c (fun e => op 125 (by rw [e]; rfl)) (fun n5 => br_c (fun e => cl (Or.inr (Or.inr e))) (fun n6 => nm_r (nI_1 k) (ih (k + 1) st am4 (by omega) (by omega) hs (by rw [tb_oth n1 n2 n3 n4 n5 n6] at hp'; exact hp'))))))))
/-- TextScans.balanced of a Latin-1 text t of n letters -/
theorem tb_X1 {post : Int32 → St1 → Prop} {mc ms : Nat} {h z : Int32} {t : Nat → Nat} {a : Nat → Int32} {n : Nat} (hn : n ≤ 65536) (hL : sb_Lat t n a) (hmc : 2 ≤ mc) (hms : 2 * n ≤ ms)
    (hp : post (tb_ans (tb_L (fun j => nI (t j)) 0 n)) (0, h, z, a, n)) : wpX1_balanced post mc ms (0, h, z, a, n) := by
  unfold wpX1_balanced
  dsimp only
  refine sv_length ⟨nI_pos (by omega), nm_r (nI_clamp (by omega)) ⟨by omega, by omega, by omega, 1, n, by omega, by omega, ?_⟩⟩
  refine tb_chars hn hL (by omega) (by omega) (fun b hb => ?_)
  dsimp only
  refine nm_e ⟨n + 1, ?_⟩
  refine tb_x21 hn n 0 [] _ (by omega) (Nat.le_refl 0) trivial ?_
  have e : tb_L b 0 n = tb_L (fun j => nI (t j)) 0 n := tb_L_eq n 0 0 (fun j hj => by rw [Nat.zero_add]; exact hb j hj)
  rw [e]
  exact hp
end
section
/-! The twin: TextScansPlain.balanced -/
/-- the law's chars -/
def tb_let (c : Int32) : Prop := c = 40 ∨ c = 41 ∨ c = 91 ∨ c = 93 ∨ c = 123 ∨ c = 125 ∨ c = 120 ∨ c = 32
theorem tb_brLet {c : Int32} (h : tb_br c) : tb_let c := by
  rcases h with e | e | e | e | e | e
  · exact Or.inl e
  · exact Or.inr (Or.inl e)
  · exact Or.inr (Or.inr (Or.inl e))
  · exact Or.inr (Or.inr (Or.inr (Or.inl e)))
  · exact Or.inr (Or.inr (Or.inr (Or.inr (Or.inl e))))
  · exact Or.inr (Or.inr (Or.inr (Or.inr (Or.inr (Or.inl e)))))
theorem tb_letBr {c : Int32} (h : tb_let c) (hs : ¬ (c = 120 ∨ c = 32)) : tb_br c := by
  rcases h with e | e | e | e | e | e | e
  · exact Or.inl e
  · exact Or.inr (Or.inl e)
  · exact Or.inr (Or.inr (Or.inl e))
  · exact Or.inr (Or.inr (Or.inr (Or.inl e)))
  · exact Or.inr (Or.inr (Or.inr (Or.inr (Or.inl e))))
  · exact Or.inr (Or.inr (Or.inr (Or.inr (Or.inr e))))
  · exact absurd e hs
theorem tb_nar {c : Int32} (h : tb_let c) : vp_nar .char c = c := by
  rw [vp_nar_char]
  rcases h with rfl | rfl | rfl | rfl | rfl | rfl | rfl | rfl <;> decide
/-- TextScansPlain.kind -/
theorem tb_kind {post : Int32 → Prop} {u : St0} {c : Int32} (h : post (sc_ix 1 c)) : wpX2_kind post u c := sc_indexOf (by decide) h
theorem tb_kneg {c : Int32} (h : tb_let c) : sc_ix 1 c < 0 ↔ (c = 120 ∨ c = 32) := by
  rcases h with rfl | rfl | rfl | rfl | rfl | rfl | rfl | rfl <;> decide +kernel
theorem tb_even {c : Int32} (h : tb_br c) : sc_ix 1 c - sc_ix 1 c / 2 * 2 = 0 ↔ (c = 40 ∨ c = 91 ∨ c = 123) := by
  rcases h with rfl | rfl | rfl | rfl | rfl | rfl <;> decide +kernel
theorem tb_nxt {a b : Int32} (ha : a = 40 ∨ a = 91 ∨ a = 123) (hb : tb_br b) : sc_ix 1 b = sc_ix 1 a + 1 ↔ tb_pr a b := by
  unfold tb_pr
  rcases ha with rfl | rfl | rfl <;> rcases hb with rfl | rfl | rfl | rfl | rfl | rfl <;> decide +kernel
theorem tb_m2 {q : Nat} (h : 2 ≤ q) : nI q + (-2) = nI (q - 2) := by
  obtain ⟨r, rfl⟩ : ∃ r, q = r + 2 := ⟨q - 2, by omega⟩
  rw [← nI_add r 2, Int32.add_assoc, show nI 2 + (-2) = 0 from by decide, Int32.add_zero, show r + 2 - 2 = r by omega]
theorem tb_p2 (k : Nat) : nI k + 2 = nI (k + 2) := nI_add k 2
/-- two places taken out -/
theorem tb_y89 {post : Int32 → St1 → Prop} {mc ms : Nat} {J49 : Int32 → Int32 → (Nat → Int32) → (Nat → Int32) → Prop} {kc ks : Nat} {f0 f1 f2 : Int32} {a1 am : Nat → Int32} {n1 N q i : Nat} (hq : i + 2 ≤ q) (hqN : q ≤ N) (hN : N ≤ 65536) (hl : ∀ j, j < q → vp_nar .char (am j) = am j)
    (H : ∀ b : Nat → Int32, (∀ j, j < i → b j = am j) → (∀ j, i ≤ j → j + 2 < q → b j = am (j + 2)) → J49 (nI (q - 2)) 0 a1 b) :
    ∃ fu, wX2_balanced_89 post mc ms J49 (nI q) kc ks f0 f1 f2 n1 N fu (nI i) a1 am := by
  refine pk_loop (fun f k s => wX2_balanced_89 post mc ms J49 (nI q) kc ks f0 f1 f2 n1 N f (nI k) a1 s) (fun k s => i ≤ k ∧ (∀ j, j < i → s j = am j) ∧ (∀ j, i ≤ j → j < k → s j = am (j + 2)) ∧ (∀ j, k ≤ j → s j = am j)) (q - 2) i am (by omega) ⟨Nat.le_refl _, fun _ _ => rfl, fun j h1 h2 => absurd h2 (by omega), fun _ _ => rfl⟩ ?_ ?_
  · intro f s h
    exact pk_le q (q - 2 + 2) (fun _ => nm_r (tb_m2 (by omega)) (H s h.2.1 (fun j h1 h2 => h.2.2.1 j h1 (by omega)))) (fun z => absurd z (by omega)) rfl (tb_p2 _) (by omega) (by omega)
  · intro f k s hk h hw
    obtain ⟨h1, h2, h3, h4⟩ := h
    refine pk_le q (k + 2) (fun z => absurd z (by omega)) (fun z => ⟨pk_in (k + 2) N (by omega) (tb_p2 k) (by omega), pk_in k N (by omega) rfl (by omega), ?_⟩) rfl (tb_p2 k) (by omega) (by omega)
    refine nm_r (e' := upd s k (am (k + 2))) (by rw [tb_p2, nI_clamp (by omega), nI_clamp (by omega), h4 (k + 2) (by omega), hl (k + 2) (by omega)]) (nm_r (nI_1 k) (hw _ ⟨by omega, fun j hj => ?_, fun j hj hj2 => ?_, fun j hj => ?_⟩))
    · rw [pk_un (by omega)]
      exact h2 j hj
    · by_cases e : j = k
      · rw [e, pk_us]
      · rw [pk_un e]
        exact h3 j hj (by omega)
    · rw [pk_un (by omega)]
      exact h4 j (by omega)
/-- neighbours that pair up are taken away until none does -/
theorem tb_y49 {post : Int32 → St1 → Prop} {mc ms kc ks : Nat} {f0 f1 f2 : Int32} {a1 : Nat → Int32} {n1 N : Nat} (hN : N ≤ 8) :
    ∀ (f q i : Nat) (am : Nat → Int32), 9 * q + 8 - i < f → i ≤ q → q ≤ N → (∀ j, j < q → tb_br (am j)) → (∀ j, j < i → j + 1 < q → ¬ tb_pr (am j) (am (j + 1))) → post (tb_ans (tb_L am 0 q)) (f0, f1, f2, a1, n1) →
    wX2_balanced_49 post mc ms kc ks f0 f1 f2 n1 N f (nI q) (nI i) a1 am := by
  intro f
  induction f with
  | zero => intro q i am h; omega
  | succ f ih =>
    intro q i am hf hi hq hb hnp hp
    rw [wX2_balanced_49]
    refine pk_le q (i + 1) (fun z => ?_) (fun z => ⟨pk_in i N (by omega) rfl (by omega), ?_⟩) rfl (nI_1 i) (by omega) (by omega)
    · refine pk_eq q 0 (fun h0 => ?_) (fun h0 => ?_) rfl rfl (by omega) (by omega)
      · rw [h0] at hp
        exact hp
      · rw [tb_irr h0 (fun j hj => hnp j (by omega) hj) hb] at hp
        exact hp
    · rw [nI_1 i, nI_clamp (n := i) (by omega), nI_clamp (n := i + 1) (by omega)]
      refine tb_kind ⟨by decide, ek_if (tb_even (hb i (by omega))) (fun ho => ⟨pk_in (i + 1) N (by omega) rfl (by omega), tb_kind ⟨pk_in i N (by omega) rfl (by omega), tb_kind (ek_if (tb_nxt ho (hb (i + 1) (by omega))) (fun hpr => ?_) (fun hpr => nm_e ?_))⟩⟩) (fun ho => nm_e ?_)⟩
      · refine tb_y89 (by omega) hq (by omega) (fun j hj => tb_nar (tb_brLet (hb j hj))) (fun b h1 h2 => ?_)
        refine ih (q - 2) 0 b (by omega) (by omega) (by omega) (fun j hj => ?_) (fun j hj => absurd hj (Nat.not_lt_zero j)) ?_
        · by_cases e : j < i
          · rw [h1 j e]
            exact hb j (by omega)
          · rw [h2 j (by omega) (by omega)]
            exact hb (j + 2) (by omega)
        · rw [tb_red (by omega) hpr h1 h2]
          exact hp
      · refine ih q (i + 1) am (by omega) (by omega) hq hb (fun j hj hj2 => ?_) hp
        by_cases e : j = i
        · rw [e]
          exact hpr
        · exact hnp j (by omega) hj2
      · refine ih q (i + 1) am (by omega) (by omega) hq hb (fun j hj hj2 => ?_) hp
        by_cases e : j = i
        · rw [e]
          intro hpr
          rcases hpr with ⟨e1, _⟩ | ⟨e1, _⟩ | ⟨e1, _⟩
          · exact ho (Or.inl e1)
          · exact ho (Or.inr (Or.inl e1))
          · exact ho (Or.inr (Or.inr e1))
        · exact hnp j (by omega) hj2
/-- the brackets are kept, in their order -/
theorem tb_y11 {post : Int32 → St1 → Prop} {mc ms kc ks : Nat} {h z : Int32} {t : Nat → Nat} {a : Nat → Int32} {n : Nat} (hn : n ≤ 8) (hL : sb_Lat t n a) (hlet : ∀ j, j < n → tb_let (nI (t j))) :
    ∀ (d k q : Nat) (am : Nat → Int32), k + d = n → q ≤ k → (∀ j, j < q → tb_br (am j)) → post (tb_ans (tb_L am 0 q ++ tb_L (fun j => nI (t j)) k d)) (0, h, z, a, n) →
    wX2_balanced_11 post mc ms kc ks 0 h z n n (d + 1) (nI q) (nI k) a am := by
  intro d
  induction d with
  | zero =>
    intro k q am hk hq hb hp
    rw [wX2_balanced_11]
    refine sv_length (br_t (nI_le (by omega) (by omega)) ⟨9 * q + 9, ?_⟩)
    refine tb_y49 hn (9 * q + 9) q 0 am (by omega) (by omega) (by omega) hb (fun j hj => absurd hj (Nat.not_lt_zero j)) ?_
    have hp' : post (tb_ans (tb_L am 0 q ++ [])) (0, h, z, a, n) := hp
    rw [List.append_nil] at hp'
    exact hp'
  | succ d ih =>
    intro k q am hk hq hb hp
    have hp' : post (tb_ans (tb_L am 0 q ++ nI (t k) :: tb_L (fun j => nI (t j)) (k + 1) d)) (0, h, z, a, n) := hp
    have hk' : k < n := by omega
    rw [wX2_balanced_11]
    refine sv_length (br_f (nI_ge (by omega) (by omega)) (sv_charAt (by omega) hL hk' (tb_kind (ek_if (tb_kneg (hlet k hk')) (fun hs => nm_r (nI_1 k) ?_) (fun hs => ?_)))))
    · rw [tb_skipL hs] at hp'
      exact ih (k + 1) q am (by omega) (by omega) hb hp'
    · refine sv_charAt (by omega) hL hk' ⟨vp_in_nI (by omega) (by omega), nm_r (e' := upd am q (nI (t k))) (by rw [nI_clamp (by omega), tb_nar (hlet k hk')]) (nm_r (nI_1 q) (nm_r (nI_1 k) ?_))⟩
      refine ih (k + 1) (q + 1) _ (by omega) (by omega) (fun j hj => ?_) ?_
      · by_cases e : j = q
        · rw [e, pk_us]
          exact tb_letBr (hlet k hk') hs
        · rw [pk_un e]
          exact hb j (by omega)
      · rw [tb_L_snoc, List.append_assoc]
        exact hp'
/-- TextScansPlain.balanced of a text t of at most 8 letters -/
theorem tb_X2 {post : Int32 → St1 → Prop} {mc ms : Nat} {h z : Int32} {t : Nat → Nat} {a : Nat → Int32} {n : Nat} (hn : n ≤ 8) (hL : sb_Lat t n a) (hlet : ∀ j, j < n → tb_let (nI (t j))) (hmc : 1 ≤ mc) (hms : n ≤ ms)
    (hp : post (tb_ans (tb_L (fun j => nI (t j)) 0 n)) (0, h, z, a, n)) : wpX2_balanced post mc ms (0, h, z, a, n) := by
  unfold wpX2_balanced
  dsimp only
  refine sv_length ⟨nI_pos (by omega), nm_r (nI_clamp (by omega)) ⟨by omega, by omega, by omega, n + 1, ?_⟩⟩
  exact tb_y11 hn hL hlet n 0 0 _ (by omega) (Nat.le_refl 0) (fun j hj => absurd hj (Nat.not_lt_zero j)) hp
end
section
/-! The empty text, and the law -/
theorem tb_X1e {post : Int32 → St2 → Prop} {mc ms : Nat} {h z : Int32} (hmc : 2 ≤ mc) (hp : post 1 (0, h, z)) : wpX1_balanced_2 post mc ms (0, h, z) := by
  unfold wpX1_balanced_2
  dsimp only
  refine ⟨by decide, by decide, nm_r (e' := 0) (by decide) ⟨by omega, by omega, by omega, 1, 0, by omega, by omega, ?_⟩⟩
  refine br_t rfl (br_f (by decide) ⟨1, 0, by omega, by omega, by decide, by decide, nm_r (e' := 0) (by decide) ⟨by omega, by omega, by omega, 1, br_t (by decide) ?_⟩⟩)
  dsimp only
  exact nm_e ⟨1, br_t (by decide) (br_t rfl hp)⟩
theorem tb_X2e {post : Int32 → St2 → Prop} {mc ms : Nat} {h z : Int32} (hmc : 1 ≤ mc) (hp : post 1 (0, h, z)) : wpX2_balanced_2 post mc ms (0, h, z) := by
  unfold wpX2_balanced_2
  dsimp only
  refine ⟨by decide, by decide, nm_r (e' := 0) (by decide) ⟨by omega, by omega, by omega, 1, ?_⟩⟩
  exact ⟨by decide, br_t (by decide) ⟨1, br_t (by decide) (br_t rfl hp)⟩⟩
theorem tb_t {c : Int32} (h : tb_let c) : c.toNatClampNeg < 256 ∧ c = nI c.toNatClampNeg := by
  rcases h with rfl | rfl | rfl | rfl | rfl | rfl | rfl | rfl <;> decide
/-- a text of at most 8 chars: the two answers are the same -/
theorem tb_180 {post : Int32 → St0 → Prop} {mc ms kc ks n : Nat} {am : Nat → Int32} (hn : n ≤ 8) (hl : ∀ j, j < n → tb_let (am j)) (hc : kc + 5 ≤ mc) (hs : ks + 36 ≤ ms) (hp : post 1 ()) : wL_lawOf_180 post mc ms kc ks am n := by
  unfold wL_lawOf_180
  refine ⟨by omega, by omega, 1, n, by omega, by omega, ?_⟩
  by_cases h0 : n = 0
  · subst h0
    refine tb_new0 ?_
    dsimp only
    refine ⟨2, 0, by omega, by omega, tb_X1e (by omega) ?_⟩
    dsimp only
    refine ⟨1, 0, by omega, by omega, tb_X2e (by omega) ?_⟩
    exact br_t rfl hp
  · refine sv_new (t := fun j => (am j).toNatClampNeg) (by omega) (by omega) (fun j hj => tb_t (hl j hj)) (by omega) (by omega) (fun a' hL _ => ?_)
    dsimp only
    refine ⟨2, 2 * n, by omega, by omega, tb_X1 (by omega) hL (by omega) (by omega) ?_⟩
    dsimp only
    refine ⟨1, n, by omega, by omega, tb_X2 hn hL (fun j hj => ?_) (by omega) (by omega) ?_⟩
    · have e := (tb_t (hl j hj)).2
      show tb_let (nI (am j).toNatClampNeg)
      rw [← e]
      exact hl j hj
    · exact br_t rfl hp
theorem tb_upL {s : Nat → Int32} {n i : Nat} {c : Int32} (h : ∀ j, j < n → tb_let (s j)) (hc : tb_let c) : ∀ j, j < n → tb_let (upd s i c j) := by
  intro j hj
  by_cases e : j = i
  · rw [e, pk_us]
    exact hc
  · rw [pk_un e]
    exact h j hj
/-- the second half mirrors the first -/
theorem tb_112 {post : Int32 → St0 → Prop} {mc ms kc ks n i0 : Nat} {am : Nat → Int32} (hn : n ≤ 8) (hi0 : i0 ≤ n) (hl : ∀ j, j < n → tb_let (am j)) (hc : kc + 5 ≤ mc) (hs : ks + 36 ≤ ms) (hp : post 1 ()) : ∃ fu, wL_lawOf_112 post mc ms kc ks n fu (nI i0) am := by
  refine pk_loop (fun f i s => wL_lawOf_112 post mc ms kc ks n f (nI i) s) (fun _ s => ∀ j, j < n → tb_let (s j)) n i0 am hi0 hl ?_ ?_
  · intro f s h
    exact pk_le n n (fun _ => tb_180 hn h hc hs hp) (fun z => absurd z (by omega)) rfl rfl (by omega) (by omega)
  · intro f i s hi h hw
    have e : Int32.ofNat n - 1 - nI i = nI (n - 1 - i) := by
      rw [show Int32.ofNat n - 1 = nI (n - 1) from pk_sub (a := n) (b := 1) (by omega), pk_sub (by omega)]
    have st : ∀ c : Int32, tb_let c → ∀ s' : Nat → Int32, s' = upd s (nI i).toNatClampNeg c → ∀ x : Int32, x = nI i + 1 → wL_lawOf_112 post mc ms kc ks n f x s' :=
      fun c hc' => nm_e (nm_r (nI_1 i) (hw _ (tb_upL h hc')))
    have ii : vp_in (nI i) n := vp_in_nI hi (by omega)
    refine pk_le n i (fun z => absurd z (by omega)) (fun _ => ⟨pk_in (n - 1 - i) n (by omega) e (by omega), nm_e ?_⟩) rfl rfl (by omega) (by omega)
    refine br_c (fun _ => ⟨ii, st 41 (Or.inr (Or.inl rfl))⟩) (fun _ => br_c (fun _ => ⟨ii, st 93 (Or.inr (Or.inr (Or.inr (Or.inl rfl))))⟩) (fun _ => br_c (fun _ => ⟨ii, st 125 (Or.inr (Or.inr (Or.inr (Or.inr (Or.inr (Or.inl rfl))))))⟩) (fun _ => ⟨ii, ii, st _ ?_⟩)))
    rw [nI_clamp (by omega), tb_nar (h i hi)]
    exact h i hi
/-- the text's chars are chosen -/
theorem tb_71 {post : Int32 → St0 → Prop} {mc ms kc ks n : Nat} {x0 x1 : Int32} {sg am : Nat → Int32} (hn : n ≤ 8) (hsg : ∀ j, j < 8 → tb_let (sg j)) (hc : kc + 5 ≤ mc) (hs : ks + 36 ≤ ms) (hp : post 1 ()) : ∃ fu, wL_lawOf_71 post mc ms x0 x1 kc ks 8 n fu 0 sg am := by
  refine pk_loop (fun f i s => wL_lawOf_71 post mc ms x0 x1 kc ks 8 n f (nI i) sg s) (fun i s => ∀ j, j < i → tb_let (s j)) n 0 am (by omega) (fun j hj => absurd hj (Nat.not_lt_zero j)) ?_ ?_
  · intro f s h
    refine pk_le n n (fun _ => br_c (fun _ => tb_180 hn h hc hs hp) (fun _ => ⟨by decide, nm_r (e' := nI (n / 2)) (pk_div (d := 2) (by omega) (by omega) (by omega)) (tb_112 hn (by omega) h hc hs hp)⟩)) (fun z => absurd z (by omega)) rfl rfl (by omega) (by omega)
  · intro f i s hi h hw
    obtain ⟨k, hk, e⟩ := pk_andE ((x1.toUInt32 >>> ((3 * nI i).toUInt32 &&& Int32.toUInt32 31)).toInt32) (m := 7) 3 (by decide)
    have hk' : k < 8 := hk
    refine pk_le n i (fun z => absurd z (by omega)) (fun _ => ⟨pk_in k 8 hk' e (by omega), vp_in_nI hi (by omega), nm_r (e' := upd s i (sg k)) ?_ (nm_r (nI_1 i) (hw _ (fun j hj => ?_)))⟩) rfl rfl (by omega) (by omega)
    · rw [e, nI_clamp (by omega), nI_clamp (by omega), tb_nar (hsg k hk')]
    · by_cases ej : j = i
      · rw [ej, pk_us]
        exact hsg k hk'
      · rw [pk_un ej]
        exact h j (by omega)
/-- the eight signs -/
theorem tb_sg : ∀ j, j < 8 → tb_let (upd (upd (upd (upd (upd (upd (upd (upd (fun _ => 0) (0 : Int32).toNatClampNeg 40) (1 : Int32).toNatClampNeg 41) (2 : Int32).toNatClampNeg 91) (3 : Int32).toNatClampNeg 93) (4 : Int32).toNatClampNeg 123) (5 : Int32).toNatClampNeg 125) (6 : Int32).toNatClampNeg 120) (7 : Int32).toNatClampNeg 32 j) := by
  unfold tb_let
  decide +kernel
theorem tb_lawOf {post : Int32 → St0 → Prop} {mc ms : Nat} {p0 p1 : Int32} (hc : 7 ≤ mc) (hs : 52 ≤ ms) (hp : post 1 ()) : wpL_lawOf post mc ms () p0 p1 := by
  obtain ⟨j, hj, e⟩ := pk_andE p0 (m := 15) 4 (by decide)
  unfold wpL_lawOf
  rw [e]
  refine ⟨by omega, by omega, pk_in 0 8 (by omega), nm_e ⟨pk_in 1 8 (by omega), nm_e ⟨pk_in 2 8 (by omega), nm_e ⟨pk_in 3 8 (by omega), nm_e ⟨pk_in 4 8 (by omega), nm_e ⟨pk_in 5 8 (by omega), nm_e ⟨pk_in 6 8 (by omega), nm_e ⟨pk_in 7 8 (by omega), nm_e ?_⟩⟩⟩⟩⟩⟩⟩⟩
  refine pk_le j 8 (fun z => ⟨nI_pos (by omega), nm_r (nI_clamp (by omega)) ⟨by omega, by omega, by omega, tb_71 z tb_sg (by omega) (by omega) hp⟩⟩) (fun z => ⟨by decide, nm_r (e' := 8) (by decide) ⟨by omega, by omega, by omega, tb_71 (by omega) tb_sg (by omega) (by omega) hp⟩⟩) rfl rfl (by omega) (by omega)
theorem tb_cell {post : Int32 → Prop} {L : Nat} {xs : Nat → Int32} {u : St0} (k : Nat) (hk : k < 2 ^ 31) (hL : L ≤ 2) (h : ∀ v, post v) : wpL_cellAt post L xs u (nI k) :=
  pk_le L k (fun _ => h 0) (fun z => ⟨pk_in k L z rfl (by omega), h _⟩) rfl rfl (by omega) hk
theorem i_vc (xs : Nat → Int32) (L : Nat) (hL : L ≤ 2) : wpL_law (fun r => r = 1) L xs :=
  tb_cell 0 (by omega) hL (fun _ => tb_cell 1 (by omega) hL (fun _ => ⟨13, 208, by omega, by omega, tb_lawOf (by omega) (by omega) rfl⟩))
end
