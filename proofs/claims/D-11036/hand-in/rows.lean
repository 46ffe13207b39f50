section
/-! the pure picture: each loop of the class as a function of naturals, booleans and lists of ints -/
/-- a boolean as the machine holds it -/
def td_b (b : Bool) : Int32 := match b with
  | true => 1
  | false => 0
theorem td_f {b : Bool} (h : b = true) : ¬ b = false := by rw [h]; decide
theorem td_br {b : Bool} {A B : Prop} (f : b = false → A) (g : b = true → B) : (td_b b = 0 → A) ∧ (¬ td_b b = 0 → B) := by
  cases b
  · exact ⟨fun _ => f rfl, fun h => absurd rfl h⟩
  · exact ⟨fun h => absurd h (by decide), fun _ => g rfl⟩
theorem td_nar (b : Bool) : narrow .boolean (.int (td_b b)) = .int (td_b b) := by cases b <;> rfl
theorem td_fill {f s : Nat → Int32} {i k : Nat} {x : Int32} (hk : k = i) (h : ∀ j, j < i → s j = f j) (hx : x = f i) : ∀ j, j < i + 1 → upd s k x j = f j := by
  intro j hj
  rw [hk]
  by_cases e : j = i
  · rw [e, pk_us, hx]
  · rw [pk_un e]
    exact h j (by omega)
def td_iw (p : Int32) : Bool := if p < 0 then false else if 4095 < p then false else if p &&& 3 ≤ 2 then (if p >>> ((7 : Int32) &&& 31) < 1 then false else if 20 < ((p >>> ((2 : Int32) &&& 31)) &&& 31) + (p >>> ((7 : Int32) &&& 31)) then false else true) else false
def td_hs (P p : Int32) : Bool := if p < 0 then false else if 8 ≤ p then false else if (P >>> (p &&& 31)) &&& 1 = 0 then false else true
def td_cf (p q : Int32) : Bool :=
  if p &&& 3 = q &&& 3 then
    (if ((q >>> ((2 : Int32) &&& 31)) &&& 31) + (q >>> ((7 : Int32) &&& 31)) ≤ ((p >>> ((2 : Int32) &&& 31)) &&& 31) then false
     else if ((p >>> ((2 : Int32) &&& 31)) &&& 31) + (p >>> ((7 : Int32) &&& 31)) ≤ ((q >>> ((2 : Int32) &&& 31)) &&& 31) then false else true)
  else false
def td_cons (x : Int32) : Bool := if (x &&& (x >>> ((1 : Int32) &&& 31))) &&& 21845 = 0 then true else false
def td_pos (T : List Int32) (x1 : Int32) : Nat → Nat → Int32 → Bool
  | 0, _, x2 => td_cons x2
  | n + 1, i, x2 => if (x1 >>> (nI i &&& 31)) &&& 1 = 0 then td_pos T x1 n (i + 1) x2 else td_pos T x1 n (i + 1) (x2 ||| T.getD i 0)
def td_plan (P : Int32) (T : List Int32) : Nat → Nat → Int32 → Int32
  | 0, _, x1 => x1
  | n + 1, i, x1 =>
    if td_hs P (nI i) = false then td_plan P T n (i + 1) x1
    else if td_pos T (x1 ||| ((1 : Int32) <<< ((2 * nI i) &&& 31))) 16 0 0 = false then td_plan P T n (i + 1) (x1 ||| ((2 : Int32) <<< ((2 * nI i) &&& 31)))
    else td_plan P T n (i + 1) (x1 ||| ((1 : Int32) <<< ((2 * nI i) &&& 31)))
/-- direct(c): C c d says whether the ways c and d collide -/
def td_dl (P pn pw : Int32) (C : Nat → Nat → Bool) (c : Nat) : Nat → Nat → Int32 → Int32
  | 0, _, x2 =>
    if (pn >>> ((nI c >>> ((1 : Int32) &&& 31)) &&& 31)) &&& 1 = 0 then x2
    else if (pw >>> ((nI c >>> ((1 : Int32) &&& 31)) &&& 31)) &&& 1 = nI c &&& 1 then x2
    else x2 ||| ((1 : Int32) <<< ((nI c ^^^ 1) &&& 31))
  | n + 1, d, x2 =>
    if td_hs P (nI d >>> ((1 : Int32) &&& 31)) = false then td_dl P pn pw C c n (d + 1) x2
    else if nI d >>> ((1 : Int32) &&& 31) = nI c >>> ((1 : Int32) &&& 31) then td_dl P pn pw C c n (d + 1) x2
    else if C c d = false then td_dl P pn pw C c n (d + 1) x2
    else td_dl P pn pw C c n (d + 1) (x2 ||| ((1 : Int32) <<< ((nI d ^^^ 1) &&& 31)))
/-- the first row of learn() -/
def td_im (P pn pw : Int32) (C : Nat → Nat → Bool) (c : Nat) : Int32 :=
  if td_hs P (nI c >>> ((1 : Int32) &&& 31)) = false then ((0 : Int32).toUInt32 % 65536).toInt32
  else (((((1 : Int32) <<< (nI c &&& 31)) ||| td_dl P pn pw C c 16 0 0).toUInt32 % 65536).toInt32)
def td_L0 (P pn pw : Int32) (C : Nat → Nat → Bool) : List Int32 := (List.range 16).map (td_im P pn pw C)
/-- one step of the closure, a row of it, all of it -/
def td_st (m c : Nat) (l : List Int32) : List Int32 :=
  if ((l.getD c 0) >>> (nI m &&& 31)) &&& 1 = 0 then l else l.set c (((l.getD c 0) ||| (l.getD m 0)).toUInt32 % 65536).toInt32
def td_c1 (m : Nat) : Nat → Nat → List Int32 → List Int32
  | 0, _, l => l
  | n + 1, c, l => td_c1 m n (c + 1) (td_st m c l)
def td_c2 : Nat → Nat → List Int32 → List Int32
  | 0, _, l => l
  | n + 1, m, l => td_c2 n (m + 1) (td_c1 m 16 0 l)
def td_sl (P : Int32) (T : List Int32) : Nat → Nat → Bool
  | 0, _ => true
  | n + 1, i =>
    if td_hs P (nI i) = false then td_sl P T n (i + 1)
    else if td_pos T ((1 : Int32) <<< ((2 * nI i) &&& 31)) 16 0 0 = false then
      (if td_pos T ((2 : Int32) <<< ((2 * nI i) &&& 31)) 16 0 0 = false then false else td_sl P T n (i + 1))
    else td_sl P T n (i + 1)
def td_sd (T : List Int32) (x1 : Int32) : Nat → Nat → Bool
  | 0, _ => true
  | n + 1, i =>
    if (x1 >>> (nI i &&& 31)) &&& 1 = 0 then td_sd T x1 n (i + 1)
    else if (T.getD i 0) &&& (x1 ^^^ (-1)) = 0 then td_sd T x1 n (i + 1) else false
def td_fl (P F : Int32) (T : List Int32) : Nat → Nat → Int32 → Int32
  | 0, _, x1 => x1
  | n + 1, i, x1 =>
    if td_hs P (nI i) = false then td_fl P F T n (i + 1) x1
    else if td_sd T (F ^^^ ((3 : Int32) <<< ((2 * nI i) &&& 31))) 16 0 = false then td_fl P F T n (i + 1) (x1 + 0)
    else td_fl P F T n (i + 1) (x1 + 1)
def td_fo (P : Int32) (T : List Int32) (p : Int32) : Int32 :=
  if td_hs P p = false then -1
  else if td_pos T ((1 : Int32) <<< ((2 * p) &&& 31)) 16 0 0 = false then 1
  else if td_pos T ((2 : Int32) <<< ((2 * p) &&& 31)) 16 0 0 = false then 0
  else -1
def td_fj (P : Int32) (T : List Int32) : Nat → Nat → Int32 → Int32
  | 0, _, x1 => x1
  | n + 1, i, x1 => if td_fo P T (nI i) = -1 then td_fj P T n (i + 1) x1 else td_fj P T n (i + 1) (x1 + 1)
/-- avoiding(a): D c says whether way c collides with a -/
def td_av (P : Int32) (D : Nat → Bool) : Nat → Nat → Int32 → Int32
  | 0, _, x2 => x2
  | n + 1, c, x2 =>
    if td_hs P (nI c >>> ((1 : Int32) &&& 31)) = false then td_av P D n (c + 1) x2
    else if D c = false then td_av P D n (c + 1) x2
    else td_av P D n (c + 1) (x2 ||| ((1 : Int32) <<< ((nI c ^^^ 1) &&& 31)))
/-- the picture's C tells which ways of present jobs collide -/
def td_hC (P : Int32) (a1 : Nat → Int32) (C : Nat → Nat → Bool) : Prop :=
  ∀ c d, c < 16 → d < 16 → td_hs P (nI c >>> ((1 : Int32) &&& 31)) = true → td_hs P (nI d >>> ((1 : Int32) &&& 31)) = true →
    ¬ nI d >>> ((1 : Int32) &&& 31) = nI c >>> ((1 : Int32) &&& 31) → td_cf (a1 c) (a1 d) = C c d
def td_tb (a : Nat → Int32) (T : List Int32) : Prop := ∀ i, i < 16 → a i = T.getD i 0
/-- a state whose learn() gives, or has given, the table T and the plan F -/
def td_ok (P pn pw kn fi : Int32) (a1 a2 : Nat → Int32) (T : List Int32) (F : Int32) : Prop :=
  (kn = 0 ∧ ∃ C, td_hC P a1 C ∧ td_c2 16 0 (td_L0 P pn pw C) = T ∧ td_plan P T 8 0 0 = F) ∨ (¬ kn = 0 ∧ fi = F ∧ td_tb a2 T)
def td_rl (a : Nat → Int32) (l : List Int32) : Prop := l.length = 16 ∧ td_tb a l
theorem td_rset {a : Nat → Int32} {l : List Int32} {k c : Nat} {v w : Int32} (h : td_rl a l) (hk : k = c) (hc : c < 16) (hv : v = w) : td_rl (upd a k v) (l.set c w) := by
  subst hk hv
  refine ⟨by rw [List.length_set]; exact h.1, fun i hi => ?_⟩
  by_cases e : i = k
  · subst e
    rw [pk_us, List.getD_eq_getElem?_getD, List.getElem?_set_self (by rw [h.1]; exact hc)]
    rfl
  · rw [pk_un e, List.getD_eq_getElem?_getD, List.getElem?_set_ne (fun z => e z.symm), ← List.getD_eq_getElem?_getD]
    exact h.2 i hi
theorem td_L0r {P pn pw : Int32} {C : Nat → Nat → Bool} {a : Nat → Int32} (h : ∀ j, j < 16 → a j = td_im P pn pw C j) : td_rl a (td_L0 P pn pw C) := by
  refine ⟨by unfold td_L0; rw [List.length_map, List.length_range], fun i hi => ?_⟩
  rw [h i hi, td_L0, List.getD_eq_getElem?_getD, List.getElem?_map, List.getElem?_range hi]
  rfl
end
section
/-! the walks: one lemma a method, over any state that matches the picture -/
theorem td_isway {post : Int32 → Prop} {p : Int32} (H : post (td_b (td_iw p))) : wpX_isWay post () p := by
  unfold wpX_isWay wpX_machineOf wpX_lengthOf wpX_startOf
  dsimp only
  refine ⟨fun h1 => ?_, fun h1 => ⟨fun h2 => ?_, fun h2 => ⟨fun h3 => ⟨fun h4 => ?_, fun h4 => ⟨fun h5 => ?_, fun h5 => ?_⟩⟩, fun h3 => ?_⟩⟩⟩
  · rw [td_iw, if_pos h1] at H; exact H
  · rw [td_iw, if_neg h1, if_pos h2] at H; exact H
  · rw [td_iw, if_neg h1, if_neg h2, if_pos h3, if_pos h4] at H; exact H
  · rw [td_iw, if_neg h1, if_neg h2, if_pos h3, if_neg h4, if_pos h5] at H; exact H
  · rw [td_iw, if_neg h1, if_neg h2, if_pos h3, if_neg h4, if_neg h5] at H; exact H
  · rw [td_iw, if_neg h1, if_neg h2, if_neg h3] at H; exact H
theorem td_has {post : Int32 → Prop} {P pn pw kn fi : Int32} {a1 a2 : Nat → Int32} {p : Int32} (H : post (td_b (td_hs P p))) : wpX_has post (P, pn, pw, kn, fi, a1, a2) p := by
  unfold wpX_has
  dsimp only
  refine ⟨fun h1 => ?_, fun h1 => ⟨fun h2 => ?_, fun h2 => ⟨fun h3 => ?_, fun h3 => ?_⟩⟩⟩
  · rw [td_hs, if_pos h1] at H; exact H
  · rw [td_hs, if_neg h1, if_pos h2] at H; exact H
  · rw [td_hs, if_neg h1, if_neg h2, if_pos h3] at H; exact H
  · rw [td_hs, if_neg h1, if_neg h2, if_neg h3] at H; exact H
theorem td_coll {post : Int32 → Prop} {p q : Int32} (H : post (td_b (td_cf p q))) : wpX_collide post () p q := by
  unfold wpX_collide wpX_machineOf wpX_lengthOf wpX_startOf
  dsimp only
  refine ⟨fun h1 => ⟨fun h2 => ?_, fun h2 => ⟨fun h3 => ?_, fun h3 => ?_⟩⟩, fun h1 => ?_⟩
  · rw [td_cf, if_pos h1, if_pos h2] at H; exact H
  · rw [td_cf, if_pos h1, if_neg h2, if_pos h3] at H; exact H
  · rw [td_cf, if_pos h1, if_neg h2, if_neg h3] at H; exact H
  · rw [td_cf, if_neg h1] at H; exact H
theorem td_cs {post : Int32 → Prop} {x : Int32} (H : post (td_b (td_cons x))) : wpX_consistent (fun r => (narrow .boolean (.int r) = .int r ∧ post r)) () x := by
  unfold wpX_consistent
  dsimp only
  refine ⟨fun h => ⟨td_nar true, ?_⟩, fun h => ⟨td_nar false, ?_⟩⟩
  · rw [td_cons, if_pos h] at H; exact H
  · rw [td_cons, if_neg h] at H; exact H
theorem td_pos4 {post : Int32 → Prop} {x1 P pn pw kn fi : Int32} {a1 a2 : Nat → Int32} {T : List Int32} (hT : td_tb a2 T) :
    ∀ (n i : Nat) (x2 : Int32), i + n = 16 → post (td_b (td_pos T x1 n i x2)) → wX_possible_4 post x1 P pn pw kn fi a1 a2 (n + 1) x2 (nI i) := by
  intro n
  induction n with
  | zero =>
    intro i x2 hi H
    obtain rfl : i = 16 := by omega
    exact pk_le 16 16 (fun _ => td_cs H) (fun z => absurd z (by omega))
  | succ n ih =>
    intro i x2 hi H
    refine pk_le 16 i (fun z => absurd z (by omega)) (fun _ => br_c (fun h => ?_) (fun h => ?_))
    · rw [td_pos, if_pos h] at H
      exact nm_r (nI_1 i) (ih (i + 1) x2 (by omega) H)
    · rw [td_pos, if_neg h] at H
      refine ⟨pk_in i 16 (by omega), nm_r ?_ (nm_r (nI_1 i) (ih (i + 1) _ (by omega) H))⟩
      rw [nI_clamp (by omega), hT i (by omega)]
theorem td_poss {post : Int32 → Prop} {p P pn pw kn fi : Int32} {a1 a2 : Nat → Int32} {T : List Int32} (hT : td_tb a2 T)
    (H : post (td_b (td_pos T p 16 0 0))) : wpX_possible post (P, pn, pw, kn, fi, a1, a2) p :=
  ⟨17, td_pos4 hT 16 0 0 rfl H⟩
theorem td_plan4 {post : St2 → Prop} {P pn pw kn fi : Int32} {a1 a2 : Nat → Int32} {T : List Int32} (hT : td_tb a2 T) :
    ∀ (n i : Nat) (x1 : Int32), i + n = 8 → post (P, pn, pw, kn, td_plan P T n i x1, a1, a2) → wX_planFirst_4 post P pn pw kn fi a1 a2 (n + 1) x1 (nI i) := by
  intro n
  induction n with
  | zero =>
    intro i x1 hi H
    obtain rfl : i = 8 := by omega
    exact pk_le 8 8 (fun _ => H) (fun z => absurd z (by omega))
  | succ n ih =>
    intro i x1 hi H
    refine pk_le 8 i (fun z => absurd z (by omega)) (fun _ => td_has (td_br (fun h => ?_) (fun h => nm_e (td_poss hT (td_br (fun g => ?_) (fun g => ?_))))))
    · rw [td_plan, if_pos h] at H
      exact nm_r (nI_1 i) (ih (i + 1) x1 (by omega) H)
    · rw [td_plan, if_neg (td_f h), if_pos g] at H
      exact nm_e (nm_r (nI_1 i) (ih (i + 1) _ (by omega) H))
    · rw [td_plan, if_neg (td_f h), if_neg (td_f g)] at H
      exact nm_r (nI_1 i) (ih (i + 1) _ (by omega) H)
theorem td_planF {post : St2 → Prop} {P pn pw kn fi : Int32} {a1 a2 : Nat → Int32} {T : List Int32} (hT : td_tb a2 T)
    (H : post (P, pn, pw, kn, td_plan P T 8 0 0, a1, a2)) : wpX_planFirst post (P, pn, pw, kn, fi, a1, a2) :=
  ⟨9, td_plan4 hT 8 0 0 rfl H⟩
theorem td_dir4 {post : Int32 → Prop} {P pn pw kn fi : Int32} {a1 a2 : Nat → Int32} {C : Nat → Nat → Bool} {c : Nat} (hC : td_hC P a1 C) (hc : c < 16)
    (hp : td_hs P (nI c >>> ((1 : Int32) &&& 31)) = true) :
    ∀ (n d : Nat) (x2 : Int32), d + n = 16 → post (td_dl P pn pw C c n d x2) → wX_direct_4 post (nI c) P pn pw kn fi a1 a2 (n + 1) x2 (nI d) := by
  intro n
  induction n with
  | zero =>
    intro d x2 hd H
    obtain rfl : d = 16 := by omega
    refine pk_le 16 16 (fun _ => nm_e (br_c (fun h => ?_) (fun h => br_c (fun g => ?_) (fun g => ?_)))) (fun z => absurd z (by omega))
    · rw [td_dl, if_pos h] at H
      exact br_t rfl H
    · rw [td_dl, if_neg h, if_pos g] at H
      exact br_t rfl H
    · rw [td_dl, if_neg h, if_neg g] at H
      exact br_f (by decide) H
  | succ n ih =>
    intro d x2 hd H
    refine pk_le 16 d (fun z => absurd z (by omega)) (fun _ => td_has (td_br (fun h => ?_) (fun h => br_c (fun g => ?_) (fun g => ⟨pk_in c 16 hc, pk_in d 16 (by omega), td_coll (td_br (fun e => ?_) (fun e => ?_))⟩))))
    · rw [td_dl, if_pos h] at H
      exact nm_r (nI_1 d) (ih (d + 1) x2 (by omega) H)
    · rw [td_dl, if_neg (td_f h), if_pos g] at H
      exact nm_r (nI_1 d) (ih (d + 1) x2 (by omega) H)
    · rw [nI_clamp (by omega), nI_clamp (by omega), hC c d hc (by omega) hp h g] at e
      rw [td_dl, if_neg (td_f h), if_neg g, if_pos e] at H
      exact nm_r (nI_1 d) (ih (d + 1) x2 (by omega) H)
    · rw [nI_clamp (by omega), nI_clamp (by omega), hC c d hc (by omega) hp h g] at e
      rw [td_dl, if_neg (td_f h), if_neg g, if_neg (td_f e)] at H
      exact nm_e (nm_r (nI_1 d) (ih (d + 1) _ (by omega) H))
theorem td_dir {post : Int32 → Prop} {P pn pw kn fi : Int32} {a1 a2 : Nat → Int32} {C : Nat → Nat → Bool} {c : Nat} (hC : td_hC P a1 C) (hc : c < 16)
    (hp : td_hs P (nI c >>> ((1 : Int32) &&& 31)) = true) (H : post (td_dl P pn pw C c 16 0 0)) : wpX_direct post (P, pn, pw, kn, fi, a1, a2) (nI c) :=
  ⟨17, td_dir4 hC hc hp 16 0 0 rfl H⟩
theorem td_l67 {post : St2 → Prop} {J : Int32 → (Nat → Int32) → (Nat → Int32) → Prop} {P pn pw kn fi : Int32} {a1 : Nat → Int32} {m : Nat} (hm : m < 16) :
    ∀ (n c : Nat) (l : List Int32) (a2 : Nat → Int32), c + n = 16 → td_rl a2 l → (∀ a, td_rl a (td_c1 m n c l) → J (nI (m + 1)) a1 a) →
      wX_learn_67 post J (nI m) P pn pw kn fi (n + 1) (nI c) a1 a2 := by
  intro n
  induction n with
  | zero =>
    intro c l a2 hc h H
    obtain rfl : c = 16 := by omega
    exact pk_le 16 16 (fun _ => nm_r (nI_1 m) (H a2 h)) (fun z => absurd z (by omega))
  | succ n ih =>
    intro c l a2 hc h H
    have ec : a2 (nI c).toNatClampNeg = l.getD c 0 := by rw [nI_clamp (by omega), h.2 c (by omega)]
    have em : a2 (nI m).toNatClampNeg = l.getD m 0 := by rw [nI_clamp (by omega), h.2 m (by omega)]
    refine pk_le 16 c (fun z => absurd z (by omega)) (fun _ => ⟨pk_in c 16 (by omega), br_c (fun g => ?_) (fun g => ⟨pk_in c 16 (by omega), pk_in m 16 hm, pk_in c 16 (by omega), nm_e (nm_r (nI_1 c) ?_)⟩)⟩)
    · rw [ec] at g
      have e : td_st m c l = l := by rw [td_st, if_pos g]
      refine nm_r (nI_1 c) (ih (c + 1) l a2 (by omega) h (fun a ha => H a ?_))
      rw [td_c1, e]
      exact ha
    · rw [ec] at g
      have e : td_st m c l = l.set c (((l.getD c 0) ||| (l.getD m 0)).toUInt32 % 65536).toInt32 := by rw [td_st, if_neg g]
      refine ih (c + 1) _ _ (by omega) (td_rset h (nI_clamp (by omega)) (by omega) (by rw [ec, em])) (fun a ha => H a ?_)
      rw [td_c1, e]
      exact ha
theorem td_l59 {post : St2 → Prop} {P pn pw kn fi : Int32} {a1 : Nat → Int32} :
    ∀ (n m : Nat) (l : List Int32) (a2 : Nat → Int32), m + n = 16 → td_rl a2 l →
      (∀ a, td_rl a (td_c2 n m l) → post (P, pn, pw, kn, td_plan P (td_c2 n m l) 8 0 0, a1, a)) → wX_learn_59 post P pn pw kn fi (n + 1) (nI m) a1 a2 := by
  intro n
  induction n with
  | zero =>
    intro m l a2 hm h H
    obtain rfl : m = 16 := by omega
    exact pk_le 16 16 (fun _ => td_planF h.2 (H a2 h)) (fun z => absurd z (by omega))
  | succ n ih =>
    intro m l a2 hm h H
    exact pk_le 16 m (fun z => absurd z (by omega)) (fun _ => ⟨17, td_l67 (by omega) 16 0 l a2 rfl h (fun a ha => ih (m + 1) _ a (by omega) ha (fun b hb => H b hb))⟩)
theorem td_l15 {post : St2 → Prop} {P pn pw kn fi : Int32} {a1 : Nat → Int32} {C : Nat → Nat → Bool} (hC : td_hC P a1 C)
    (H : ∀ a, td_rl a (td_L0 P pn pw C) → ∃ fu, wX_learn_59 post P pn pw kn fi fu 0 a1 a) :
    ∀ (n i : Nat) (a2 : Nat → Int32), i + n = 16 → (∀ j, j < i → a2 j = td_im P pn pw C j) → wX_learn_15 post P pn pw kn fi (n + 1) (nI i) a1 a2 := by
  intro n
  induction n with
  | zero =>
    intro i a2 hi h
    obtain rfl : i = 16 := by omega
    exact pk_le 16 16 (fun _ => H a2 (td_L0r h)) (fun z => absurd z (by omega))
  | succ n ih =>
    intro i a2 hi h
    refine pk_le 16 i (fun z => absurd z (by omega)) (fun _ => td_has (td_br (fun g => ⟨pk_in i 16 (by omega), nm_e (nm_r (nI_1 i) ?_)⟩) (fun g => td_dir hC (by omega) g ⟨pk_in i 16 (by omega), nm_e (nm_r (nI_1 i) ?_)⟩)))
    · exact ih (i + 1) _ (by omega) (td_fill (nI_clamp (by omega)) h (by rw [td_im, if_pos g]))
    · exact ih (i + 1) _ (by omega) (td_fill (nI_clamp (by omega)) h (by rw [td_im, if_neg (td_f g)]))
theorem td_learn {post : St2 → Prop} {P pn pw kn fi F : Int32} {a1 a2 : Nat → Int32} {T : List Int32} (h : td_ok P pn pw kn fi a1 a2 T F)
    (H : ∀ k a, ¬ k = 0 → td_tb a T → post (P, pn, pw, k, F, a1, a)) : wpX_learn post (P, pn, pw, kn, fi, a1, a2) := by
  rcases h with ⟨hk, C, hC, hT, hF⟩ | ⟨hk, hF, hT⟩
  · refine br_t hk ⟨17, td_l15 hC (fun a ha => ⟨17, td_l59 16 0 _ a rfl ha (fun b hb => ?_)⟩) 16 0 a2 rfl (fun j hj => absurd hj (by omega))⟩
    rw [hT] at hb
    rw [hT, hF]
    exact H 1 b (by decide) hb.2
  · subst hF
    exact br_f hk (H kn a2 hk hT)
theorem td_done {P pn pw k F : Int32} {a1 a : Nat → Int32} {T : List Int32} (hk : ¬ k = 0) (hT : td_tb a T) : td_ok P pn pw k F a1 a T F := Or.inr ⟨hk, rfl, hT⟩
end
section
/-! the calls of the law -/
theorem td_s6 {post : Int32 → St2 → Prop} {P pn pw kn fi : Int32} {a1 a2 : Nat → Int32} {T : List Int32} (hT : td_tb a2 T) :
    ∀ (n i : Nat), i + n = 8 → post (td_b (td_sl P T n i)) (P, pn, pw, kn, fi, a1, a2) → wX_solvable_6 post P pn pw kn fi a1 a2 (n + 1) (nI i) := by
  intro n
  induction n with
  | zero =>
    intro i hi H
    obtain rfl : i = 8 := by omega
    exact pk_le 8 8 (fun _ => H) (fun z => absurd z (by omega))
  | succ n ih =>
    intro i hi H
    refine pk_le 8 i (fun z => absurd z (by omega)) (fun _ => td_has (td_br (fun h => ?_) (fun h => td_poss hT (td_br (fun g => td_poss hT (td_br (fun e => ?_) (fun e => ?_))) (fun g => ?_)))))
    · rw [td_sl, if_pos h] at H
      exact nm_r (nI_1 i) (ih (i + 1) (by omega) H)
    · rw [td_sl, if_neg (td_f h), if_pos g, if_pos e] at H
      exact H
    · rw [td_sl, if_neg (td_f h), if_pos g, if_neg (td_f e)] at H
      exact nm_r (nI_1 i) (ih (i + 1) (by omega) H)
    · rw [td_sl, if_neg (td_f h), if_neg (td_f g)] at H
      exact nm_r (nI_1 i) (ih (i + 1) (by omega) H)
theorem td_solv {post : Int32 → St2 → Prop} {P pn pw kn fi F : Int32} {a1 a2 : Nat → Int32} {T : List Int32} (h : td_ok P pn pw kn fi a1 a2 T F)
    (H : ∀ k a, td_ok P pn pw k F a1 a T F → post (td_b (td_sl P T 8 0)) (P, pn, pw, k, F, a1, a)) : wpX_solvable post (P, pn, pw, kn, fi, a1, a2) := by
  unfold wpX_solvable
  exact td_learn h (fun k a hk hT => ⟨9, td_s6 hT 8 0 rfl (H k a (td_done hk hT))⟩)
theorem td_plnd {post : Int32 → St2 → Prop} {P pn pw kn fi F p : Int32} {a1 a2 : Nat → Int32} {T : List Int32} (h : td_ok P pn pw kn fi a1 a2 T F) (hp : td_hs P p = true)
    (H : ∀ k a, td_ok P pn pw k F a1 a T F → post ((F >>> (((2 * p) + 1) &&& 31)) &&& 1) (P, pn, pw, k, F, a1, a)) : wpX_planned post (P, pn, pw, kn, fi, a1, a2) p := by
  unfold wpX_planned
  exact td_has (td_br (fun g => absurd g (td_f hp)) (fun _ => td_learn h (fun k a hk hT => H k a (td_done hk hT))))
theorem td_forc {post : Int32 → St2 → Prop} {P pn pw kn fi F p : Int32} {a1 a2 : Nat → Int32} {T : List Int32} (h : td_ok P pn pw kn fi a1 a2 T F)
    (H : ∀ k f a, td_ok P pn pw k f a1 a T F → post (td_fo P T p) (P, pn, pw, k, f, a1, a)) : wpX_forced post (P, pn, pw, kn, fi, a1, a2) p := by
  unfold wpX_forced
  refine td_has (td_br (fun g => ?_) (fun g => td_learn h (fun k a hk hT => td_poss hT (td_br (fun e => ?_) (fun e => td_poss hT (td_br (fun o => ?_) (fun o => ?_)))))))
  · have t := H kn fi a2 h
    rw [td_fo, if_pos g] at t
    exact t
  · have t := H k F a (td_done hk hT)
    rw [td_fo, if_neg (td_f g), if_pos e] at t
    exact t
  · have t := H k F a (td_done hk hT)
    rw [td_fo, if_neg (td_f g), if_neg (td_f e), if_pos o] at t
    exact t
  · have t := H k F a (td_done hk hT)
    rw [td_fo, if_neg (td_f g), if_neg (td_f e), if_neg (td_f o)] at t
    exact t
theorem td_sd2 {post : Int32 → Prop} {x1 P pn pw kn fi : Int32} {a1 a2 : Nat → Int32} {T : List Int32} (hT : td_tb a2 T) :
    ∀ (n i : Nat), i + n = 16 → post (td_b (td_sd T x1 n i)) → wX_stands_2 post x1 P pn pw kn fi a1 a2 (n + 1) (nI i) := by
  intro n
  induction n with
  | zero =>
    intro i hi H
    obtain rfl : i = 16 := by omega
    exact pk_le 16 16 (fun _ => H) (fun z => absurd z (by omega))
  | succ n ih =>
    intro i hi H
    have ec : a2 (nI i).toNatClampNeg = T.getD i 0 := by rw [nI_clamp (by omega), hT i (by omega)]
    refine pk_le 16 i (fun z => absurd z (by omega)) (fun _ => br_c (fun h => ?_) (fun h => ⟨pk_in i 16 (by omega), br_c (fun g => ?_) (fun g => ?_)⟩))
    · rw [td_sd, if_pos h] at H
      exact nm_r (nI_1 i) (ih (i + 1) (by omega) H)
    · rw [ec] at g
      rw [td_sd, if_neg h, if_pos g] at H
      exact nm_r (nI_1 i) (ih (i + 1) (by omega) H)
    · rw [ec] at g
      rw [td_sd, if_neg h, if_neg g] at H
      exact H
theorem td_stan {post : Int32 → Prop} {p P pn pw kn fi : Int32} {a1 a2 : Nat → Int32} {T : List Int32} (hT : td_tb a2 T)
    (H : post (td_b (td_sd T p 16 0))) : wpX_stands post (P, pn, pw, kn, fi, a1, a2) p :=
  ⟨17, td_sd2 hT 16 0 rfl H⟩
theorem td_fl8 {post : Int32 → St2 → Prop} {P pn pw kn F : Int32} {a1 a2 : Nat → Int32} {T : List Int32} (hT : td_tb a2 T) :
    ∀ (n i : Nat) (x1 : Int32), i + n = 8 → post (td_fl P F T n i x1) (P, pn, pw, kn, F, a1, a2) → wX_flips_8 post P pn pw kn F a1 a2 (n + 1) x1 (nI i) := by
  intro n
  induction n with
  | zero =>
    intro i x1 hi H
    obtain rfl : i = 8 := by omega
    exact pk_le 8 8 (fun _ => H) (fun z => absurd z (by omega))
  | succ n ih =>
    intro i x1 hi H
    refine pk_le 8 i (fun z => absurd z (by omega)) (fun _ => td_has (td_br (fun h => ?_) (fun h => nm_e (td_stan hT (td_br (fun g => ?_) (fun g => ?_))))))
    · rw [td_fl, if_pos h] at H
      exact nm_r (nI_1 i) (ih (i + 1) x1 (by omega) H)
    · rw [td_fl, if_neg (td_f h), if_pos g] at H
      exact nm_e (nm_r (nI_1 i) (ih (i + 1) _ (by omega) H))
    · rw [td_fl, if_neg (td_f h), if_neg (td_f g)] at H
      exact nm_e (nm_r (nI_1 i) (ih (i + 1) _ (by omega) H))
theorem td_flip {post : Int32 → St2 → Prop} {P pn pw kn fi F : Int32} {a1 a2 : Nat → Int32} {T : List Int32} (h : td_ok P pn pw kn fi a1 a2 T F)
    (H : ∀ k a, td_ok P pn pw k F a1 a T F → post (td_fl P F T 8 0 0) (P, pn, pw, k, F, a1, a)) : wpX_flips post (P, pn, pw, kn, fi, a1, a2) := by
  unfold wpX_flips
  exact td_learn h (fun k a hk hT => ⟨9, td_fl8 hT 8 0 0 rfl (H k a (td_done hk hT))⟩)
theorem td_av4 {post : Int32 → Prop} {x1 P pn pw kn fi : Int32} {a1 a2 : Nat → Int32} {D : Nat → Bool}
    (hD : ∀ c, c < 16 → td_hs P (nI c >>> ((1 : Int32) &&& 31)) = true → td_cf (a1 c) x1 = D c) :
    ∀ (n c : Nat) (x2 : Int32), c + n = 16 → post (td_av P D n c x2) → wX_avoiding_4 post x1 P pn pw kn fi a1 a2 (n + 1) x2 (nI c) := by
  intro n
  induction n with
  | zero =>
    intro c x2 hc H
    obtain rfl : c = 16 := by omega
    exact pk_le 16 16 (fun _ => H) (fun z => absurd z (by omega))
  | succ n ih =>
    intro c x2 hc H
    refine pk_le 16 c (fun z => absurd z (by omega)) (fun _ => td_has (td_br (fun h => ?_) (fun h => ⟨pk_in c 16 (by omega), td_coll (td_br (fun e => ?_) (fun e => ?_))⟩)))
    · rw [td_av, if_pos h] at H
      exact nm_r (nI_1 c) (ih (c + 1) x2 (by omega) H)
    · rw [nI_clamp (by omega), hD c (by omega) h] at e
      rw [td_av, if_neg (td_f h), if_pos e] at H
      exact nm_r (nI_1 c) (ih (c + 1) x2 (by omega) H)
    · rw [nI_clamp (by omega), hD c (by omega) h] at e
      rw [td_av, if_neg (td_f h), if_neg (td_f e)] at H
      exact nm_e (nm_r (nI_1 c) (ih (c + 1) _ (by omega) H))
theorem td_avo {post : Int32 → Prop} {p P pn pw kn fi : Int32} {a1 a2 : Nat → Int32} {D : Nat → Bool}
    (hD : ∀ c, c < 16 → td_hs P (nI c >>> ((1 : Int32) &&& 31)) = true → td_cf (a1 c) p = D c)
    (H : post (td_av P D 16 0 0)) : wpX_avoiding post (P, pn, pw, kn, fi, a1, a2) p :=
  ⟨17, td_av4 hD 16 0 0 rfl H⟩
theorem td_take {post : Int32 → St2 → Prop} {P pn pw kn fi F : Int32} {a1 a2 : Nat → Int32} {T : List Int32} {D : Nat → Bool} {t : Nat} (ht : t < 20) (h : td_ok P pn pw kn fi a1 a2 T F)
    (hD : ∀ c, c < 16 → td_hs P (nI c >>> ((1 : Int32) &&& 31)) = true → td_cf (a1 c) ((0 + (4 * nI t)) + 128) = D c)
    (H : ∀ k a, td_ok P pn pw k F a1 a T F → post (td_b (!td_pos T (td_av P D 16 0 0) 16 0 0)) (P, pn, pw, k, F, a1, a)) : wpX_alwaysTaken post (P, pn, pw, kn, fi, a1, a2) 0 (nI t) := by
  unfold wpX_alwaysTaken
  refine br_f (by decide) (br_f (by decide) (br_f (nI_pos (by omega)) (br_t (nI_lt (b := 20) ht (by decide)) (td_learn h (fun k a hk hT => td_avo hD (td_poss hT (td_br (fun g => ?_) (fun g => ?_))))))))
  · have u := H k a (td_done hk hT)
    rw [g] at u
    exact u
  · have u := H k a (td_done hk hT)
    rw [g] at u
    exact u
theorem td_free {post : Int32 → St2 → Prop} {P pn pw kn fi F p : Int32} {a1 a2 : Nat → Int32} {T : List Int32} {D : Nat → Bool} (hw : td_iw p = true) (h : td_ok P pn pw kn fi a1 a2 T F)
    (hD : ∀ c, c < 16 → td_hs P (nI c >>> ((1 : Int32) &&& 31)) = true → td_cf (a1 c) p = D c)
    (H : ∀ k a, td_ok P pn pw k F a1 a T F → post (td_b (td_pos T (td_av P D 16 0 0) 16 0 0)) (P, pn, pw, k, F, a1, a)) : wpX_couldKeepFree post (P, pn, pw, kn, fi, a1, a2) p := by
  unfold wpX_couldKeepFree
  exact td_isway (td_br (fun g => absurd g (td_f hw)) (fun _ => td_learn h (fun k a hk hT => td_avo hD (td_poss hT ⟨td_nar _, H k a (td_done hk hT)⟩))))
theorem td_fj4 {post : Int32 → St2 → Prop} {P pn pw F : Int32} {a1 : Nat → Int32} {T : List Int32} :
    ∀ (n i : Nat) (x1 kn fi : Int32) (a2 : Nat → Int32), i + n = 8 → td_ok P pn pw kn fi a1 a2 T F →
      (∀ k f a, td_ok P pn pw k f a1 a T F → post (td_fj P T n i x1) (P, pn, pw, k, f, a1, a)) → wX_forcedJobs_4 post (n + 1) x1 (nI i) P pn pw kn fi a1 a2 := by
  intro n
  induction n with
  | zero =>
    intro i x1 kn fi a2 hi h H
    obtain rfl : i = 8 := by omega
    exact pk_le 8 8 (fun _ => H kn fi a2 h) (fun z => absurd z (by omega))
  | succ n ih =>
    intro i x1 kn fi a2 hi h H
    refine pk_le 8 i (fun z => absurd z (by omega)) (fun _ => td_forc h (fun k f a hk => br_c (fun g => ?_) (fun g => ?_)))
    · rw [td_fj, if_pos g] at H
      exact nm_r (nI_1 i) (ih (i + 1) x1 k f a (by omega) hk H)
    · rw [td_fj, if_neg g] at H
      exact nm_e (nm_r (nI_1 i) (ih (i + 1) _ k f a (by omega) hk H))
theorem td_fjob {post : Int32 → St2 → Prop} {P pn pw kn fi F : Int32} {a1 a2 : Nat → Int32} {T : List Int32} (h : td_ok P pn pw kn fi a1 a2 T F)
    (H : ∀ k f a, td_ok P pn pw k f a1 a T F → post (td_fj P T 8 0 0) (P, pn, pw, k, f, a1, a)) : wpX_forcedJobs post (P, pn, pw, kn, fi, a1, a2) :=
  ⟨9, td_fj4 8 0 0 kn fi a2 rfl h H⟩
theorem td_pin {post : Int32 → St2 → Prop} {kn fi F : Int32} {a1 a2 : Nat → Int32} {T : List Int32} (h : td_ok 3 2 0 0 fi a1 a2 T F)
    (H0 : td_sl 3 T 8 0 = false → ∀ a, post (-3) (3, 0, 0, 0, F, a1, a))
    (H1 : td_sl 3 T 8 0 = true → ∀ k a, td_ok 3 2 0 k F a1 a T F → post 0 (3, 2, 0, k, F, a1, a)) : wpX_pin post (3, 0, 0, kn, fi, a1, a2) 1 0 := by
  unfold wpX_pin
  refine td_has (td_br (fun g => absurd g (by decide)) (fun _ => br_t rfl (br_f (by decide) (nm_r (e' := 2) (by decide) (br_f (by decide) ?_)))))
  unfold wX_pin_67
  have e : (0 : Int32) &&& (((1 : Int32) <<< ((1 : Int32) &&& 31)) ^^^ (-1)) = 0 := by decide
  rw [e]
  exact td_solv h (fun k a hk => td_br (fun g => H0 g a) (fun g => H1 g k a hk))
theorem td_plac {post : St2 → Prop} {P P' pn pn' pw kn fi p1 p2 : Int32} {a1 a2 : Nat → Int32} {j : Nat} (hj : j < 8) (h1 : p1.toInt16.toInt32 = p1) (h2 : p2.toInt16.toInt32 = p2)
    (hP : P ||| ((1 : Int32) <<< (nI j &&& 31)) = P') (hn : pn &&& (((1 : Int32) <<< (nI j &&& 31)) ^^^ (-1)) = pn')
    (H : post (P', pn', pw, 0, fi, upd (upd a1 (2 * j) p1) (2 * j + 1) p2, a2)) : wpX_place post (P, pn, pw, kn, fi, a1, a2) (nI j) p1 p2 := by
  have e1 : 2 * nI j = nI (2 * j) := pk_mul 2 j
  have e2 : 2 * nI j + 1 = nI (2 * j + 1) := by rw [e1]; exact nI_1 _
  unfold wpX_place
  refine nm_r hP (nm_r hn ⟨pk_in (2 * j) 16 (by omega) e1, nm_r (e' := upd a1 (2 * j) p1) ?_ ⟨pk_in (2 * j + 1) 16 (by omega) e2, nm_r (e' := upd (upd a1 (2 * j) p1) (2 * j + 1) p2) ?_ H⟩⟩)
  · rw [e1, h1, nI_clamp (by omega)]
  · rw [e2, h2, nI_clamp (by omega)]
theorem td_prb {post : Int32 → St2 → Prop} {P P' kn fi F p1 p2 : Int32} {a1 a2 : Nat → Int32} {T : List Int32} {j : Nat} (hj : j < 8) (h1 : p1.toInt16.toInt32 = p1) (h2 : p2.toInt16.toInt32 = p2)
    (hP : P ||| ((1 : Int32) <<< (nI j &&& 31)) = P') (hQ : P' &&& (((1 : Int32) <<< (nI j &&& 31)) ^^^ (-1)) = P) (hn : (0 : Int32) &&& (((1 : Int32) <<< (nI j &&& 31)) ^^^ (-1)) = 0)
    (hlt : ∀ i, i < j → td_hs P (nI i) = true) (hno : td_hs P (nI j) = false)
    (h : td_ok P' 0 0 0 fi (upd (upd a1 (2 * j) p1) (2 * j + 1) p2) a2 T F) (hs : td_sl P' T 8 0 = true)
    (H : ∀ a, post (nI j) (P, 0, 0, 0, F, upd (upd a1 (2 * j) p1) (2 * j + 1) p2, a)) :
    ∀ (n i : Nat), i + n = j → wX_probe_18 post p1 p2 P 0 0 kn fi a1 a2 (n + 1) (nI i) := by
  intro n
  induction n with
  | zero =>
    intro i hi
    obtain rfl : i = j := by omega
    exact pk_le 8 i (fun z => absurd z (by omega)) (fun _ => td_has (td_br (fun _ => td_plac hj h1 h2 hP hn (td_solv h (fun k a hk => nm_r hQ (td_br (fun g => absurd g (td_f hs)) (fun _ => H a))))) (fun g => absurd hno (td_f g))))
  | succ n ih =>
    intro i hi
    exact pk_le 8 i (fun z => absurd z (by omega)) (fun _ => td_has (td_br (fun g => absurd g (td_f (hlt i (by omega)))) (fun _ => nm_r (nI_1 i) (ih (i + 1) (by omega)))))
theorem td_offer {post : Int32 → St2 → Prop} {P P' kn fi F p1 p2 : Int32} {a1 a2 : Nat → Int32} {T : List Int32} (j : Nat) (hj : j < 8) (w1 : td_iw p1 = true) (w2 : td_iw p2 = true)
    (h1 : p1.toInt16.toInt32 = p1) (h2 : p2.toInt16.toInt32 = p2)
    (hP : P ||| ((1 : Int32) <<< (nI j &&& 31)) = P') (hQ : P' &&& (((1 : Int32) <<< (nI j &&& 31)) ^^^ (-1)) = P) (hn : (0 : Int32) &&& (((1 : Int32) <<< (nI j &&& 31)) ^^^ (-1)) = 0)
    (hlt : ∀ i, i < j → td_hs P (nI i) = true) (hno : td_hs P (nI j) = false)
    (h : td_ok P' 0 0 0 fi (upd (upd a1 (2 * j) p1) (2 * j + 1) p2) a2 T F) (hs : td_sl P' T 8 0 = true)
    (H : ∀ a, post (nI j) (P', 0, 0, 0, F, upd (upd (upd (upd a1 (2 * j) p1) (2 * j + 1) p2) (2 * j) p1) (2 * j + 1) p2, a)) :
    wpX_offer post (P, 0, 0, kn, fi, a1, a2) p1 p2 := by
  unfold wpX_offer
  dsimp only
  unfold wpX_probe
  refine td_isway (td_br (fun g => absurd g (td_f w1)) (fun _ => td_isway (td_br (fun g => absurd g (td_f w2)) (fun _ => ⟨j + 1, ?_⟩))))
  exact td_prb hj h1 h2 hP hQ hn hlt hno h hs (fun a => br_f (nI_pos (by omega)) (td_plac hj h1 h2 hP hn (H a))) j 0 (by omega)
end
section
/-! the plain facts: what the picture computes. m: the two jobs' ways on machine 0 meet; k: job 0's way holds the moment t -/
def td_C (m : Bool) (c d : Nat) : Bool := m && ((c == 2 && decide (d < 2)) || (d == 2 && decide (c < 2)))
def td_D (k : Bool) (c : Nat) : Bool := (k && decide (c < 2)) || c == 2
def td_T1 : List Int32 := [1, 2, 0, 0, 0, 0, 0, 0, 0, 0, 0, 0, 0, 0, 0, 0]
def td_T2 (m : Bool) : List Int32 := match m with
  | true => [9, 10, 15, 8, 0, 0, 0, 0, 0, 0, 0, 0, 0, 0, 0, 0]
  | false => [1, 2, 4, 8, 0, 0, 0, 0, 0, 0, 0, 0, 0, 0, 0, 0]
def td_F2 (m : Bool) : Int32 := match m with
  | true => 9
  | false => 5
def td_T3 (m : Bool) : List Int32 := match m with
  | true => [15, 15, 15, 15, 0, 0, 0, 0, 0, 0, 0, 0, 0, 0, 0, 0]
  | false => [1, 2, 4, 12, 0, 0, 0, 0, 0, 0, 0, 0, 0, 0, 0, 0]
def td_F3 (m : Bool) : Int32 := match m with
  | true => 10
  | false => 5
theorem td_e1 : td_c2 16 0 (td_L0 1 0 0 (fun _ _ => false)) = td_T1 := by decide +kernel
theorem td_e1f : td_plan 1 td_T1 8 0 0 = 1 := by decide +kernel
theorem td_e1s : td_sl 1 td_T1 8 0 = true := by decide +kernel
theorem td_e2 (m : Bool) : td_c2 16 0 (td_L0 3 0 0 (td_C m)) = td_T2 m := by cases m <;> decide +kernel
theorem td_e2f (m : Bool) : td_plan 3 (td_T2 m) 8 0 0 = td_F2 m := by cases m <;> decide +kernel
theorem td_e2s (m : Bool) : td_sl 3 (td_T2 m) 8 0 = true := by cases m <;> decide +kernel
theorem td_e3 (m : Bool) : td_c2 16 0 (td_L0 3 2 0 (td_C m)) = td_T3 m := by cases m <;> decide +kernel
theorem td_e3f (m : Bool) : td_plan 3 (td_T3 m) 8 0 0 = td_F3 m := by cases m <;> decide +kernel
theorem td_e3s (m : Bool) : td_sl 3 (td_T3 m) 8 0 = !m := by cases m <;> decide +kernel
/-- the law's answers before the pin -/
def td_r2 (m : Bool) : Int32 := match m with
  | true => 1
  | false => -1
def td_r3 (m : Bool) : Int32 := match m with
  | true => 1
  | false => 2
theorem td_v1 (m : Bool) : (td_F2 m >>> (((2 * (1 : Int32)) + 1) &&& 31)) &&& 1 = td_b m := by cases m <;> decide +kernel
theorem td_v2 (m : Bool) : td_fo 3 (td_T2 m) 1 = td_r2 m := by cases m <;> decide +kernel
theorem td_v3 (m : Bool) : td_fl 3 (td_F2 m) (td_T2 m) 8 0 0 = td_r3 m := by cases m <;> decide +kernel
/-- behind the pin: table and plan -/
def td_T4 (m : Bool) : List Int32 := match m with
  | true => td_T2 true
  | false => td_T3 false
def td_F4 (m : Bool) : Int32 := match m with
  | true => td_F2 true
  | false => td_F3 false
theorem td_v5 (m k : Bool) (h : k = true → m = true) : (!td_pos (td_T4 m) (td_av 3 (td_D k) 16 0 0) 16 0 0) = (!m || k) := by
  cases m <;> cases k
  · decide +kernel
  · exact absurd (h rfl) (by decide)
  · decide +kernel
  · decide +kernel
theorem td_v6 (m : Bool) : td_pos (td_T4 m) (td_av 3 (td_D m) 16 0 0) 16 0 0 = false := by cases m <;> decide +kernel
theorem td_v7 (m : Bool) : td_fj 3 (td_T4 m) 8 0 0 = 1 := by cases m <;> decide +kernel
theorem td_v8 (m : Bool) : td_fl 3 (td_F4 m) (td_T4 m) 8 0 0 = 1 := by cases m <;> decide +kernel
/-! the ways of the law -/
theorem td_w1 : ∀ s, s < 18 → td_iw (4 * nI s + 256) = true ∧ td_iw (1 + (4 * nI s + 256)) = true ∧ (4 * nI s + 256).toInt16.toInt32 = 4 * nI s + 256 ∧ (1 + (4 * nI s + 256)).toInt16.toInt32 = 1 + (4 * nI s + 256) := by decide +kernel
theorem td_w2 : ∀ s, s < 18 → ∀ t, t < 18 → td_cf (4 * nI s + 256) (4 * nI t + 256) = decide (s < t + 2 ∧ t < s + 2) := by decide +kernel
theorem td_w3 : ∀ s, s < 18 → ∀ t, t < 18 → td_cf (4 * nI s + 256) (1 + (4 * nI t + 256)) = false := by decide +kernel
theorem td_w4 : ∀ s, s < 18 → ∀ t, t < 18 → td_cf (1 + (4 * nI s + 256)) (4 * nI t + 256) = false := by decide +kernel
theorem td_w5 : ∀ s, s < 18 → ∀ t, t < 18 → td_cf (4 * nI s + 256) ((0 + (4 * nI t)) + 128) = decide (s ≤ t ∧ t < s + 2) := by decide +kernel
theorem td_w6 : ∀ s, s < 18 → ∀ t, t < 18 → td_cf (1 + (4 * nI s + 256)) ((0 + (4 * nI t)) + 128) = false := by decide +kernel
theorem td_p1 : ∀ c, c < 16 → td_hs 1 (nI c >>> ((1 : Int32) &&& 31)) = true → c < 2 := by decide +kernel
theorem td_p3 : ∀ c, c < 16 → td_hs 3 (nI c >>> ((1 : Int32) &&& 31)) = true → c < 4 := by decide +kernel
/-- the four ways as they lie in the array -/
def td_wy (a1 : Nat → Int32) (s t : Nat) : Prop := a1 0 = 4 * nI s + 256 ∧ a1 1 = 4 * nI s + 256 ∧ a1 2 = 4 * nI t + 256 ∧ a1 3 = 1 + (4 * nI t + 256)
theorem td_hC1 (a1 : Nat → Int32) : td_hC 1 a1 (fun _ _ => false) := by
  intro c d hc hd pc pd ne
  have c2 := td_p1 c hc pc
  have d2 := td_p1 d hd pd
  refine absurd ?_ ne
  rcases (show c = 0 ∨ c = 1 by omega) with rfl | rfl <;> rcases (show d = 0 ∨ d = 1 by omega) with rfl | rfl <;> decide
theorem td_hC3 {a1 : Nat → Int32} {s t : Nat} (hs : s < 18) (ht : t < 18) (h : td_wy a1 s t) : td_hC 3 a1 (td_C (decide (s < t + 2 ∧ t < s + 2))) := by
  obtain ⟨h0, h1, h2, h3⟩ := h
  intro c d hc hd pc pd ne
  have c4 := td_p3 c hc pc
  have d4 := td_p3 d hd pd
  have f02 := td_w2 s hs t ht
  have f20 := td_w2 t ht s hs
  have f03 := td_w3 s hs t ht
  have f30 := td_w4 t ht s hs
  have sy : decide (t < s + 2 ∧ s < t + 2) = decide (s < t + 2 ∧ t < s + 2) := decide_eq_decide.mpr ⟨fun z => ⟨z.2, z.1⟩, fun z => ⟨z.2, z.1⟩⟩
  rw [sy] at f20
  generalize decide (s < t + 2 ∧ t < s + 2) = m at f02 f20 ⊢
  rcases (show c = 0 ∨ c = 1 ∨ c = 2 ∨ c = 3 by omega) with rfl | rfl | rfl | rfl <;> rcases (show d = 0 ∨ d = 1 ∨ d = 2 ∨ d = 3 by omega) with rfl | rfl | rfl | rfl <;>
    first
    | exact absurd (by decide) ne
    | (rw [h0, h2, f02]; cases m <;> rfl)
    | (rw [h1, h2, f02]; cases m <;> rfl)
    | (rw [h2, h0, f20]; cases m <;> rfl)
    | (rw [h2, h1, f20]; cases m <;> rfl)
    | (rw [h0, h3, f03]; cases m <;> rfl)
    | (rw [h1, h3, f03]; cases m <;> rfl)
    | (rw [h3, h0, f30]; cases m <;> rfl)
    | (rw [h3, h1, f30]; cases m <;> rfl)
theorem td_hDk {a1 : Nat → Int32} {s t : Nat} (hs : s < 18) (ht : t < 18) (h : td_wy a1 s t) :
    ∀ c, c < 16 → td_hs 3 (nI c >>> ((1 : Int32) &&& 31)) = true → td_cf (a1 c) ((0 + (4 * nI t)) + 128) = td_D (decide (s ≤ t ∧ t < s + 2)) c := by
  obtain ⟨h0, h1, h2, h3⟩ := h
  intro c hc pc
  have c4 := td_p3 c hc pc
  have f := td_w5 s hs t ht
  have g := td_w5 t ht t ht
  have g' : decide (t ≤ t ∧ t < t + 2) = true := decide_eq_true ⟨by omega, by omega⟩
  have o := td_w6 t ht t ht
  rw [g'] at g
  generalize decide (s ≤ t ∧ t < s + 2) = k at f ⊢
  rcases (show c = 0 ∨ c = 1 ∨ c = 2 ∨ c = 3 by omega) with rfl | rfl | rfl | rfl
  · rw [h0, f]; cases k <;> rfl
  · rw [h1, f]; cases k <;> rfl
  · rw [h2, g]; cases k <;> rfl
  · rw [h3, o]; cases k <;> rfl
theorem td_hDm {a1 : Nat → Int32} {s t : Nat} (hs : s < 18) (ht : t < 18) (h : td_wy a1 s t) :
    ∀ c, c < 16 → td_hs 3 (nI c >>> ((1 : Int32) &&& 31)) = true → td_cf (a1 c) (4 * nI t + 256) = td_D (decide (s < t + 2 ∧ t < s + 2)) c := by
  obtain ⟨h0, h1, h2, h3⟩ := h
  intro c hc pc
  have c4 := td_p3 c hc pc
  have f := td_w2 s hs t ht
  have g := td_w2 t ht t ht
  have g' : decide (t < t + 2 ∧ t < t + 2) = true := decide_eq_true ⟨by omega, by omega⟩
  have o := td_w4 t ht t ht
  rw [g'] at g
  generalize decide (s < t + 2 ∧ t < s + 2) = m at f ⊢
  rcases (show c = 0 ∨ c = 1 ∨ c = 2 ∨ c = 3 by omega) with rfl | rfl | rfl | rfl
  · rw [h0, f]; cases m <;> rfl
  · rw [h1, f]; cases m <;> rfl
  · rw [h2, g]; cases m <;> rfl
  · rw [h3, o]; cases m <;> rfl
end
section
/-! the law -/
/-- the law's last row: all answers as wanted -/
def td_r4 (m : Bool) : Int32 := match m with
  | true => -3
  | false => 0
theorem td_fin {post : Int32 → St0 → Prop} {mc ms kc ks s t : Nat} (hs : s < 18) (ht : t < 18) (H : post 1 ()) (m : Bool) (hm : m = decide (s < t + 2 ∧ t < s + 2)) :
    wL_lawOf_169 post mc ms (nI s) (nI t) (td_b m) (td_r2 m) (td_r3 m) (td_r4 m) (td_b (!m || decide (s ≤ t ∧ t < s + 2))) 0 1 1 (td_b m) (td_b m) kc ks := by
  have last : ∀ x14 : Int32, wL_lawOf_244 post mc ms 0 1 1 x14 x14 kc ks := fun x14 => br_t rfl (br_t rfl (br_t rfl (br_t rfl H)))
  cases m
  · exact br_t rfl (br_t rfl (br_t rfl (br_t rfl (br_t rfl (br_t rfl (br_t rfl (br_t rfl (last 1))))))))
  · refine br_t rfl (br_f (by decide) (br_t rfl (br_f (by decide) (br_t rfl (br_f (by decide) (br_t rfl (br_f (by decide) (pk_lt t s (fun z => ?_) (fun z => pk_le (s + 2) t (fun y => ?_) (fun y => ?_) (nI_add s 2))))))))))
    · have e : decide (s ≤ t ∧ t < s + 2) = false := decide_eq_false (fun w => absurd w.1 (by omega))
      rw [e]
      exact last 0
    · have e : decide (s ≤ t ∧ t < s + 2) = false := decide_eq_false (fun w => absurd w.2 (by omega))
      rw [e]
      exact last 0
    · have e : decide (s ≤ t ∧ t < s + 2) = true := decide_eq_true ⟨by omega, by omega⟩
      rw [e]
      exact last 1
theorem td_km {s t : Nat} (z : decide (s ≤ t ∧ t < s + 2) = true) : decide (s < t + 2 ∧ t < s + 2) = true := by
  have := of_decide_eq_true z
  exact decide_eq_true ⟨by omega, by omega⟩
theorem td_87 {post : Int32 → St0 → Prop} {mc ms kc ks s t : Nat} (hs : s < 18) (ht : t < 18) (H : post 1 ()) (m : Bool) (hm : m = decide (s < t + 2 ∧ t < s + 2))
    {fi : Int32} {a1 a2 : Nat → Int32} (hw : td_wy a1 s t) :
    wL_lawOf_87 post mc ms (nI s) (nI t) (4 * nI t + 256) 0 1 (td_b m) kc ks 3 0 0 0 fi a1 a2 := by
  have hC : td_hC 3 a1 (td_C m) := by rw [hm]; exact td_hC3 hs ht hw
  have hDk := td_hDk hs ht hw
  have hDm := td_hDm hs ht hw
  rw [← hm] at hDm
  have hf := td_fin (mc := mc) (ms := ms) (kc := kc) (ks := ks) hs ht H m hm
  have hv := td_v5 m (decide (s ≤ t ∧ t < s + 2)) (fun z => by rw [hm]; exact td_km z)
  have hi := (td_w1 t ht).1
  unfold wL_lawOf_87
  refine td_plnd (T := td_T2 m) (F := td_F2 m) (Or.inl ⟨rfl, td_C m, hC, td_e2 m, td_e2f m⟩) (by decide) (fun k a hk => ?_)
  refine td_forc hk (fun k f a hk => ?_)
  refine td_flip hk (fun k a hk => ?_)
  refine td_pin (T := td_T3 m) (F := td_F3 m) (Or.inl ⟨rfl, td_C m, hC, td_e3 m, td_e3f m⟩) (fun z a => ?_) (fun z k a hk => ?_)
  · rw [td_e3s] at z
    have em : m = true := by cases m <;> simp_all
    have hn : td_ok 3 0 0 0 (td_F3 m) a1 a (td_T4 m) (td_F4 m) := by
      subst em
      exact Or.inl ⟨rfl, td_C true, hC, td_e2 true, td_e2f true⟩
    refine td_take (by omega) hn hDk (fun k a hk => ?_)
    refine td_free hi hk hDm (fun k a hk => ?_)
    refine td_fjob hk (fun k f a hk => ?_)
    refine td_flip hk (fun k a hk => ?_)
    dsimp only
    rw [td_v1, td_v2, td_v3, hv, td_v6, td_v7, td_v8]
    subst em
    exact br_t rfl (br_t rfl (br_f (by decide) hf))
  · rw [td_e3s] at z
    have em : m = false := by cases m <;> simp_all
    have hn : td_ok 3 2 0 k (td_F3 m) a1 a (td_T4 m) (td_F4 m) := by
      subst em
      exact hk
    refine td_take (by omega) hn hDk (fun k a hk => ?_)
    refine td_free hi hk hDm (fun k a hk => ?_)
    refine td_fjob hk (fun k f a hk => ?_)
    refine td_flip hk (fun k a hk => ?_)
    dsimp only
    rw [td_v1, td_v2, td_v3, hv, td_v6, td_v7, td_v8]
    subst em
    exact br_t rfl (br_t rfl (br_t rfl hf))
theorem td_rem (x : Int32) : ∃ s, s < 18 ∧ (x &&& 65535) - (x &&& 65535) / 18 * 18 = nI s := by
  obtain ⟨j, hj, e⟩ := pk_andE x 16 (m := 65535) (by decide)
  exact ⟨j % 18, Nat.mod_lt _ (by decide), by rw [e]; exact pk_rem (d := 18) (by omega) (by decide) (by decide)⟩
theorem td_lawOf (p0 p1 : Int32) : wpL_lawOf (fun r _ => r = 1) 18 272 () p0 p1 := by
  obtain ⟨s, hs, es⟩ := td_rem p0
  obtain ⟨t, ht, et⟩ := td_rem p1
  obtain ⟨s1, s2, s3, s4⟩ := td_w1 s hs
  obtain ⟨t1, t2, t3, t4⟩ := td_w1 t ht
  unfold wpL_lawOf
  refine ⟨by omega, by omega, 17, 265, by omega, by omega, ⟨by omega, by omega, by omega, by omega, ?_⟩⟩
  refine ⟨by decide, nm_r es ⟨by decide, nm_r et (nm_e (nm_e ?_))⟩⟩
  refine td_offer (P' := 1) (T := td_T1) (F := 1) 0 (by omega) s1 s1 s3 s3 (by decide) (by decide) (by decide) (fun i hi => absurd hi (by omega)) (by decide)
    (Or.inl ⟨rfl, _, td_hC1 _, td_e1, td_e1f⟩) td_e1s (fun a => ?_)
  have hw : ∀ f : Nat → Int32, f 0 = 4 * nI s + 256 → f 1 = 4 * nI s + 256 → td_wy (upd (upd f (2 * 1) (4 * nI t + 256)) (2 * 1 + 1) (1 + (4 * nI t + 256))) s t :=
    fun f f0 f1 => ⟨f0, f1, rfl, rfl⟩
  refine td_offer (P' := 3) (T := td_T2 (decide (s < t + 2 ∧ t < s + 2))) (F := td_F2 (decide (s < t + 2 ∧ t < s + 2))) 1 (by omega) t1 t2 t3 t4 (by decide) (by decide) (by decide)
    (fun i hi => by obtain rfl : i = 0 := by omega
                    decide) (by decide)
    (Or.inl ⟨rfl, _, td_hC3 hs ht (hw _ rfl rfl), td_e2 _, td_e2f _⟩) (td_e2s _) (fun a => ?_)
  refine pk_le (t + 2) s (fun z => ?_) (fun z => pk_le (s + 2) t (fun y => ?_) (fun y => ?_) (nI_add s 2)) (nI_add t 2)
  · exact td_87 hs ht rfl false (decide_eq_false (fun w => absurd w.1 (by omega))).symm (hw _ rfl rfl)
  · exact td_87 hs ht rfl false (decide_eq_false (fun w => absurd w.2 (by omega))).symm (hw _ rfl rfl)
  · exact td_87 hs ht rfl true (decide_eq_true ⟨by omega, by omega⟩).symm (hw _ rfl rfl)
theorem td_cell {post : Int32 → Prop} {L : Nat} {xs : Nat → Int32} (p : Nat) (hp : p < 2 ^ 31) (hL : L < 2 ^ 31) (H : ∀ r, post r) : wpL_cellAt post L xs () (nI p) :=
  pk_le L p (fun _ => H _) (fun z => ⟨pk_in p L z, H _⟩)
theorem i_vc (xs : Nat → Int32) (L : Nat) (hL : L ≤ 2) : wpL_law (fun r => r = 1) L xs :=
  td_cell 0 (by decide) (by omega) (fun r => td_cell 1 (by decide) (by omega) (fun q => ⟨18, 272, by omega, by omega, td_lawOf r q⟩))
end
