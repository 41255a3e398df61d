/-! Z 2: equations: what zev is behind one instruction (written by gen/gen_eqs.py) -/
theorem zi_st_pos {ty k n : Nat} {L st : List ZV} {v : ZV} {h : PH} (h1 : ztag v = ty) (h3 : k < L.length) : zi_st ty k n L (v :: st) h = zgo n ((zclr L k).set k v) st h := if_pos ⟨h1, h3⟩
theorem zi_stL_pos {k n : Nat} {L st : List ZV} {v : ZV} {h : PH} (h1 : zisL v = true) (h3 : k + 1 < L.length) : zi_stL k n L (v :: st) h = zgo n (((zclr L k).set k v).set (k + 1) zvu) st h := if_pos ⟨h1, h3⟩
section
variable {M : ZM} {pc n t : Nat} {L st : List ZV} {h : PH} {a b x y j : Int} {p q : Nat} {r r2 : Option Nat} {v v0 v1 v2 v3 v4 v5 v6 v7 : ZV}
theorem e_push (hl : zlk M.1 pc = some (zi_push v n)) : zev M pc L st h = zev M n L (v :: st) h := ze_go hl rfl
variable {x0 x1 x2 x3 x4 x5 x6 x7 x8 x9 x10 x11 x12 x13 x14 x15 x16 x17 x18 x19 : ZV}
theorem e_ld0I (hl : zlk M.1 pc = some (zi_ld 0 0 n)) : zev M pc (zvi a :: L) st h = zev M n (zvi a :: L) (zvi a :: st) h := ze_go hl rfl
theorem e_ld0R (hl : zlk M.1 pc = some (zi_ld 1 0 n)) : zev M pc (zvr r :: L) st h = zev M n (zvr r :: L) (zvr r :: st) h := ze_go hl rfl
theorem e_ld0J (hl : zlk M.1 pc = some (zi_ld 2 0 n)) : zev M pc (zvl a :: L) st h = zev M n (zvl a :: L) (zvl a :: st) h := ze_go hl rfl
theorem e_st0I (hl : zlk M.1 pc = some (zi_st 0 0 n)) : zev M pc (x0 :: L) (zvi a :: st) h = zev M n (zvi a :: L) st h := ze_go hl (zi_st_pos rfl (Nat.zero_lt_succ _))
theorem e_st0R (hl : zlk M.1 pc = some (zi_st 1 0 n)) : zev M pc (x0 :: L) (zvr r :: st) h = zev M n (zvr r :: L) st h := ze_go hl (zi_st_pos rfl (Nat.zero_lt_succ _))
theorem e_stJ0 (hl : zlk M.1 pc = some (zi_stL 0 n)) : zev M pc (x0 :: x1 :: L) (zvl a :: st) h = zev M n (zvl a :: zvu :: L) st h := ze_go hl (zi_stL_pos rfl (by simp only [List.length_cons]; omega))
theorem e_iinc0 {d : Int} (hl : zlk M.1 pc = some (zi_iinc 0 d n)) : zev M pc (zvi a :: L) st h = zev M n (zvi (w32 (a + d)) :: L) st h := ze_go hl rfl
theorem e_ld1I (hl : zlk M.1 pc = some (zi_ld 0 1 n)) : zev M pc (x0 :: zvi a :: L) st h = zev M n (x0 :: zvi a :: L) (zvi a :: st) h := ze_go hl rfl
theorem e_ld1R (hl : zlk M.1 pc = some (zi_ld 1 1 n)) : zev M pc (x0 :: zvr r :: L) st h = zev M n (x0 :: zvr r :: L) (zvr r :: st) h := ze_go hl rfl
theorem e_ld1J (hl : zlk M.1 pc = some (zi_ld 2 1 n)) : zev M pc (x0 :: zvl a :: L) st h = zev M n (x0 :: zvl a :: L) (zvl a :: st) h := ze_go hl rfl
theorem e_st1I (hl : zlk M.1 pc = some (zi_st 0 1 n)) (hx : zisL x0 = false) : zev M pc (x0 :: x1 :: L) (zvi a :: st) h = zev M n (x0 :: zvi a :: L) st h := ze_go hl ((zi_st_pos rfl (by simp only [List.length_cons]; omega)).trans (by have e1 : zclr (x0 :: x1 :: L) 1 = (bif zisL x0 then (x0 :: x1 :: L).set 0 zvu else (x0 :: x1 :: L)) := rfl; rw [e1, hx]; rfl))
theorem e_st1R (hl : zlk M.1 pc = some (zi_st 1 1 n)) (hx : zisL x0 = false) : zev M pc (x0 :: x1 :: L) (zvr r :: st) h = zev M n (x0 :: zvr r :: L) st h := ze_go hl ((zi_st_pos rfl (by simp only [List.length_cons]; omega)).trans (by have e1 : zclr (x0 :: x1 :: L) 1 = (bif zisL x0 then (x0 :: x1 :: L).set 0 zvu else (x0 :: x1 :: L)) := rfl; rw [e1, hx]; rfl))
theorem e_stJ1 (hl : zlk M.1 pc = some (zi_stL 1 n)) (hx : zisL x0 = false) : zev M pc (x0 :: x1 :: x2 :: L) (zvl a :: st) h = zev M n (x0 :: zvl a :: zvu :: L) st h := ze_go hl ((zi_stL_pos rfl (by simp only [List.length_cons]; omega)).trans (by have e1 : zclr (x0 :: x1 :: x2 :: L) 1 = (bif zisL x0 then (x0 :: x1 :: x2 :: L).set 0 zvu else (x0 :: x1 :: x2 :: L)) := rfl; rw [e1, hx]; rfl))
theorem e_iinc1 {d : Int} (hl : zlk M.1 pc = some (zi_iinc 1 d n)) (hx : zisL x0 = false) : zev M pc (x0 :: zvi a :: L) st h = zev M n (x0 :: zvi (w32 (a + d)) :: L) st h := ze_go hl (by simp [zi_iinc, zclr, hx, zgo, zvi])
theorem e_ld2I (hl : zlk M.1 pc = some (zi_ld 0 2 n)) : zev M pc (x0 :: x1 :: zvi a :: L) st h = zev M n (x0 :: x1 :: zvi a :: L) (zvi a :: st) h := ze_go hl rfl
theorem e_ld2R (hl : zlk M.1 pc = some (zi_ld 1 2 n)) : zev M pc (x0 :: x1 :: zvr r :: L) st h = zev M n (x0 :: x1 :: zvr r :: L) (zvr r :: st) h := ze_go hl rfl
theorem e_ld2J (hl : zlk M.1 pc = some (zi_ld 2 2 n)) : zev M pc (x0 :: x1 :: zvl a :: L) st h = zev M n (x0 :: x1 :: zvl a :: L) (zvl a :: st) h := ze_go hl rfl
theorem e_st2I (hl : zlk M.1 pc = some (zi_st 0 2 n)) (hx : zisL x1 = false) : zev M pc (x0 :: x1 :: x2 :: L) (zvi a :: st) h = zev M n (x0 :: x1 :: zvi a :: L) st h := ze_go hl ((zi_st_pos rfl (by simp only [List.length_cons]; omega)).trans (by have e1 : zclr (x0 :: x1 :: x2 :: L) 2 = (bif zisL x1 then (x0 :: x1 :: x2 :: L).set 1 zvu else (x0 :: x1 :: x2 :: L)) := rfl; rw [e1, hx]; rfl))
theorem e_st2R (hl : zlk M.1 pc = some (zi_st 1 2 n)) (hx : zisL x1 = false) : zev M pc (x0 :: x1 :: x2 :: L) (zvr r :: st) h = zev M n (x0 :: x1 :: zvr r :: L) st h := ze_go hl ((zi_st_pos rfl (by simp only [List.length_cons]; omega)).trans (by have e1 : zclr (x0 :: x1 :: x2 :: L) 2 = (bif zisL x1 then (x0 :: x1 :: x2 :: L).set 1 zvu else (x0 :: x1 :: x2 :: L)) := rfl; rw [e1, hx]; rfl))
theorem e_stJ2 (hl : zlk M.1 pc = some (zi_stL 2 n)) (hx : zisL x1 = false) : zev M pc (x0 :: x1 :: x2 :: x3 :: L) (zvl a :: st) h = zev M n (x0 :: x1 :: zvl a :: zvu :: L) st h := ze_go hl ((zi_stL_pos rfl (by simp only [List.length_cons]; omega)).trans (by have e1 : zclr (x0 :: x1 :: x2 :: x3 :: L) 2 = (bif zisL x1 then (x0 :: x1 :: x2 :: x3 :: L).set 1 zvu else (x0 :: x1 :: x2 :: x3 :: L)) := rfl; rw [e1, hx]; rfl))
theorem e_iinc2 {d : Int} (hl : zlk M.1 pc = some (zi_iinc 2 d n)) (hx : zisL x1 = false) : zev M pc (x0 :: x1 :: zvi a :: L) st h = zev M n (x0 :: x1 :: zvi (w32 (a + d)) :: L) st h := ze_go hl (by simp [zi_iinc, zclr, hx, zgo, zvi])
theorem e_ld3I (hl : zlk M.1 pc = some (zi_ld 0 3 n)) : zev M pc (x0 :: x1 :: x2 :: zvi a :: L) st h = zev M n (x0 :: x1 :: x2 :: zvi a :: L) (zvi a :: st) h := ze_go hl rfl
theorem e_ld3R (hl : zlk M.1 pc = some (zi_ld 1 3 n)) : zev M pc (x0 :: x1 :: x2 :: zvr r :: L) st h = zev M n (x0 :: x1 :: x2 :: zvr r :: L) (zvr r :: st) h := ze_go hl rfl
theorem e_ld3J (hl : zlk M.1 pc = some (zi_ld 2 3 n)) : zev M pc (x0 :: x1 :: x2 :: zvl a :: L) st h = zev M n (x0 :: x1 :: x2 :: zvl a :: L) (zvl a :: st) h := ze_go hl rfl
theorem e_st3I (hl : zlk M.1 pc = some (zi_st 0 3 n)) (hx : zisL x2 = false) : zev M pc (x0 :: x1 :: x2 :: x3 :: L) (zvi a :: st) h = zev M n (x0 :: x1 :: x2 :: zvi a :: L) st h := ze_go hl ((zi_st_pos rfl (by simp only [List.length_cons]; omega)).trans (by have e1 : zclr (x0 :: x1 :: x2 :: x3 :: L) 3 = (bif zisL x2 then (x0 :: x1 :: x2 :: x3 :: L).set 2 zvu else (x0 :: x1 :: x2 :: x3 :: L)) := rfl; rw [e1, hx]; rfl))
theorem e_st3R (hl : zlk M.1 pc = some (zi_st 1 3 n)) (hx : zisL x2 = false) : zev M pc (x0 :: x1 :: x2 :: x3 :: L) (zvr r :: st) h = zev M n (x0 :: x1 :: x2 :: zvr r :: L) st h := ze_go hl ((zi_st_pos rfl (by simp only [List.length_cons]; omega)).trans (by have e1 : zclr (x0 :: x1 :: x2 :: x3 :: L) 3 = (bif zisL x2 then (x0 :: x1 :: x2 :: x3 :: L).set 2 zvu else (x0 :: x1 :: x2 :: x3 :: L)) := rfl; rw [e1, hx]; rfl))
theorem e_stJ3 (hl : zlk M.1 pc = some (zi_stL 3 n)) (hx : zisL x2 = false) : zev M pc (x0 :: x1 :: x2 :: x3 :: x4 :: L) (zvl a :: st) h = zev M n (x0 :: x1 :: x2 :: zvl a :: zvu :: L) st h := ze_go hl ((zi_stL_pos rfl (by simp only [List.length_cons]; omega)).trans (by have e1 : zclr (x0 :: x1 :: x2 :: x3 :: x4 :: L) 3 = (bif zisL x2 then (x0 :: x1 :: x2 :: x3 :: x4 :: L).set 2 zvu else (x0 :: x1 :: x2 :: x3 :: x4 :: L)) := rfl; rw [e1, hx]; rfl))
theorem e_iinc3 {d : Int} (hl : zlk M.1 pc = some (zi_iinc 3 d n)) (hx : zisL x2 = false) : zev M pc (x0 :: x1 :: x2 :: zvi a :: L) st h = zev M n (x0 :: x1 :: x2 :: zvi (w32 (a + d)) :: L) st h := ze_go hl (by simp [zi_iinc, zclr, hx, zgo, zvi])
theorem e_ld4I (hl : zlk M.1 pc = some (zi_ld 0 4 n)) : zev M pc (x0 :: x1 :: x2 :: x3 :: zvi a :: L) st h = zev M n (x0 :: x1 :: x2 :: x3 :: zvi a :: L) (zvi a :: st) h := ze_go hl rfl
theorem e_ld4R (hl : zlk M.1 pc = some (zi_ld 1 4 n)) : zev M pc (x0 :: x1 :: x2 :: x3 :: zvr r :: L) st h = zev M n (x0 :: x1 :: x2 :: x3 :: zvr r :: L) (zvr r :: st) h := ze_go hl rfl
theorem e_ld4J (hl : zlk M.1 pc = some (zi_ld 2 4 n)) : zev M pc (x0 :: x1 :: x2 :: x3 :: zvl a :: L) st h = zev M n (x0 :: x1 :: x2 :: x3 :: zvl a :: L) (zvl a :: st) h := ze_go hl rfl
theorem e_st4I (hl : zlk M.1 pc = some (zi_st 0 4 n)) (hx : zisL x3 = false) : zev M pc (x0 :: x1 :: x2 :: x3 :: x4 :: L) (zvi a :: st) h = zev M n (x0 :: x1 :: x2 :: x3 :: zvi a :: L) st h := ze_go hl ((zi_st_pos rfl (by simp only [List.length_cons]; omega)).trans (by have e1 : zclr (x0 :: x1 :: x2 :: x3 :: x4 :: L) 4 = (bif zisL x3 then (x0 :: x1 :: x2 :: x3 :: x4 :: L).set 3 zvu else (x0 :: x1 :: x2 :: x3 :: x4 :: L)) := rfl; rw [e1, hx]; rfl))
theorem e_st4R (hl : zlk M.1 pc = some (zi_st 1 4 n)) (hx : zisL x3 = false) : zev M pc (x0 :: x1 :: x2 :: x3 :: x4 :: L) (zvr r :: st) h = zev M n (x0 :: x1 :: x2 :: x3 :: zvr r :: L) st h := ze_go hl ((zi_st_pos rfl (by simp only [List.length_cons]; omega)).trans (by have e1 : zclr (x0 :: x1 :: x2 :: x3 :: x4 :: L) 4 = (bif zisL x3 then (x0 :: x1 :: x2 :: x3 :: x4 :: L).set 3 zvu else (x0 :: x1 :: x2 :: x3 :: x4 :: L)) := rfl; rw [e1, hx]; rfl))
theorem e_stJ4 (hl : zlk M.1 pc = some (zi_stL 4 n)) (hx : zisL x3 = false) : zev M pc (x0 :: x1 :: x2 :: x3 :: x4 :: x5 :: L) (zvl a :: st) h = zev M n (x0 :: x1 :: x2 :: x3 :: zvl a :: zvu :: L) st h := ze_go hl ((zi_stL_pos rfl (by simp only [List.length_cons]; omega)).trans (by have e1 : zclr (x0 :: x1 :: x2 :: x3 :: x4 :: x5 :: L) 4 = (bif zisL x3 then (x0 :: x1 :: x2 :: x3 :: x4 :: x5 :: L).set 3 zvu else (x0 :: x1 :: x2 :: x3 :: x4 :: x5 :: L)) := rfl; rw [e1, hx]; rfl))
theorem e_iinc4 {d : Int} (hl : zlk M.1 pc = some (zi_iinc 4 d n)) (hx : zisL x3 = false) : zev M pc (x0 :: x1 :: x2 :: x3 :: zvi a :: L) st h = zev M n (x0 :: x1 :: x2 :: x3 :: zvi (w32 (a + d)) :: L) st h := ze_go hl (by simp [zi_iinc, zclr, hx, zgo, zvi])
theorem e_ld5I (hl : zlk M.1 pc = some (zi_ld 0 5 n)) : zev M pc (x0 :: x1 :: x2 :: x3 :: x4 :: zvi a :: L) st h = zev M n (x0 :: x1 :: x2 :: x3 :: x4 :: zvi a :: L) (zvi a :: st) h := ze_go hl rfl
theorem e_ld5R (hl : zlk M.1 pc = some (zi_ld 1 5 n)) : zev M pc (x0 :: x1 :: x2 :: x3 :: x4 :: zvr r :: L) st h = zev M n (x0 :: x1 :: x2 :: x3 :: x4 :: zvr r :: L) (zvr r :: st) h := ze_go hl rfl
theorem e_ld5J (hl : zlk M.1 pc = some (zi_ld 2 5 n)) : zev M pc (x0 :: x1 :: x2 :: x3 :: x4 :: zvl a :: L) st h = zev M n (x0 :: x1 :: x2 :: x3 :: x4 :: zvl a :: L) (zvl a :: st) h := ze_go hl rfl
theorem e_st5I (hl : zlk M.1 pc = some (zi_st 0 5 n)) (hx : zisL x4 = false) : zev M pc (x0 :: x1 :: x2 :: x3 :: x4 :: x5 :: L) (zvi a :: st) h = zev M n (x0 :: x1 :: x2 :: x3 :: x4 :: zvi a :: L) st h := ze_go hl ((zi_st_pos rfl (by simp only [List.length_cons]; omega)).trans (by have e1 : zclr (x0 :: x1 :: x2 :: x3 :: x4 :: x5 :: L) 5 = (bif zisL x4 then (x0 :: x1 :: x2 :: x3 :: x4 :: x5 :: L).set 4 zvu else (x0 :: x1 :: x2 :: x3 :: x4 :: x5 :: L)) := rfl; rw [e1, hx]; rfl))
theorem e_st5R (hl : zlk M.1 pc = some (zi_st 1 5 n)) (hx : zisL x4 = false) : zev M pc (x0 :: x1 :: x2 :: x3 :: x4 :: x5 :: L) (zvr r :: st) h = zev M n (x0 :: x1 :: x2 :: x3 :: x4 :: zvr r :: L) st h := ze_go hl ((zi_st_pos rfl (by simp only [List.length_cons]; omega)).trans (by have e1 : zclr (x0 :: x1 :: x2 :: x3 :: x4 :: x5 :: L) 5 = (bif zisL x4 then (x0 :: x1 :: x2 :: x3 :: x4 :: x5 :: L).set 4 zvu else (x0 :: x1 :: x2 :: x3 :: x4 :: x5 :: L)) := rfl; rw [e1, hx]; rfl))
theorem e_stJ5 (hl : zlk M.1 pc = some (zi_stL 5 n)) (hx : zisL x4 = false) : zev M pc (x0 :: x1 :: x2 :: x3 :: x4 :: x5 :: x6 :: L) (zvl a :: st) h = zev M n (x0 :: x1 :: x2 :: x3 :: x4 :: zvl a :: zvu :: L) st h := ze_go hl ((zi_stL_pos rfl (by simp only [List.length_cons]; omega)).trans (by have e1 : zclr (x0 :: x1 :: x2 :: x3 :: x4 :: x5 :: x6 :: L) 5 = (bif zisL x4 then (x0 :: x1 :: x2 :: x3 :: x4 :: x5 :: x6 :: L).set 4 zvu else (x0 :: x1 :: x2 :: x3 :: x4 :: x5 :: x6 :: L)) := rfl; rw [e1, hx]; rfl))
theorem e_iinc5 {d : Int} (hl : zlk M.1 pc = some (zi_iinc 5 d n)) (hx : zisL x4 = false) : zev M pc (x0 :: x1 :: x2 :: x3 :: x4 :: zvi a :: L) st h = zev M n (x0 :: x1 :: x2 :: x3 :: x4 :: zvi (w32 (a + d)) :: L) st h := ze_go hl (by simp [zi_iinc, zclr, hx, zgo, zvi])
theorem e_ld6I (hl : zlk M.1 pc = some (zi_ld 0 6 n)) : zev M pc (x0 :: x1 :: x2 :: x3 :: x4 :: x5 :: zvi a :: L) st h = zev M n (x0 :: x1 :: x2 :: x3 :: x4 :: x5 :: zvi a :: L) (zvi a :: st) h := ze_go hl rfl
theorem e_ld6R (hl : zlk M.1 pc = some (zi_ld 1 6 n)) : zev M pc (x0 :: x1 :: x2 :: x3 :: x4 :: x5 :: zvr r :: L) st h = zev M n (x0 :: x1 :: x2 :: x3 :: x4 :: x5 :: zvr r :: L) (zvr r :: st) h := ze_go hl rfl
theorem e_ld6J (hl : zlk M.1 pc = some (zi_ld 2 6 n)) : zev M pc (x0 :: x1 :: x2 :: x3 :: x4 :: x5 :: zvl a :: L) st h = zev M n (x0 :: x1 :: x2 :: x3 :: x4 :: x5 :: zvl a :: L) (zvl a :: st) h := ze_go hl rfl
theorem e_st6I (hl : zlk M.1 pc = some (zi_st 0 6 n)) (hx : zisL x5 = false) : zev M pc (x0 :: x1 :: x2 :: x3 :: x4 :: x5 :: x6 :: L) (zvi a :: st) h = zev M n (x0 :: x1 :: x2 :: x3 :: x4 :: x5 :: zvi a :: L) st h := ze_go hl ((zi_st_pos rfl (by simp only [List.length_cons]; omega)).trans (by have e1 : zclr (x0 :: x1 :: x2 :: x3 :: x4 :: x5 :: x6 :: L) 6 = (bif zisL x5 then (x0 :: x1 :: x2 :: x3 :: x4 :: x5 :: x6 :: L).set 5 zvu else (x0 :: x1 :: x2 :: x3 :: x4 :: x5 :: x6 :: L)) := rfl; rw [e1, hx]; rfl))
theorem e_st6R (hl : zlk M.1 pc = some (zi_st 1 6 n)) (hx : zisL x5 = false) : zev M pc (x0 :: x1 :: x2 :: x3 :: x4 :: x5 :: x6 :: L) (zvr r :: st) h = zev M n (x0 :: x1 :: x2 :: x3 :: x4 :: x5 :: zvr r :: L) st h := ze_go hl ((zi_st_pos rfl (by simp only [List.length_cons]; omega)).trans (by have e1 : zclr (x0 :: x1 :: x2 :: x3 :: x4 :: x5 :: x6 :: L) 6 = (bif zisL x5 then (x0 :: x1 :: x2 :: x3 :: x4 :: x5 :: x6 :: L).set 5 zvu else (x0 :: x1 :: x2 :: x3 :: x4 :: x5 :: x6 :: L)) := rfl; rw [e1, hx]; rfl))
theorem e_stJ6 (hl : zlk M.1 pc = some (zi_stL 6 n)) (hx : zisL x5 = false) : zev M pc (x0 :: x1 :: x2 :: x3 :: x4 :: x5 :: x6 :: x7 :: L) (zvl a :: st) h = zev M n (x0 :: x1 :: x2 :: x3 :: x4 :: x5 :: zvl a :: zvu :: L) st h := ze_go hl ((zi_stL_pos rfl (by simp only [List.length_cons]; omega)).trans (by have e1 : zclr (x0 :: x1 :: x2 :: x3 :: x4 :: x5 :: x6 :: x7 :: L) 6 = (bif zisL x5 then (x0 :: x1 :: x2 :: x3 :: x4 :: x5 :: x6 :: x7 :: L).set 5 zvu else (x0 :: x1 :: x2 :: x3 :: x4 :: x5 :: x6 :: x7 :: L)) := rfl; rw [e1, hx]; rfl))
theorem e_iinc6 {d : Int} (hl : zlk M.1 pc = some (zi_iinc 6 d n)) (hx : zisL x5 = false) : zev M pc (x0 :: x1 :: x2 :: x3 :: x4 :: x5 :: zvi a :: L) st h = zev M n (x0 :: x1 :: x2 :: x3 :: x4 :: x5 :: zvi (w32 (a + d)) :: L) st h := ze_go hl (by simp [zi_iinc, zclr, hx, zgo, zvi])
theorem e_ld7I (hl : zlk M.1 pc = some (zi_ld 0 7 n)) : zev M pc (x0 :: x1 :: x2 :: x3 :: x4 :: x5 :: x6 :: zvi a :: L) st h = zev M n (x0 :: x1 :: x2 :: x3 :: x4 :: x5 :: x6 :: zvi a :: L) (zvi a :: st) h := ze_go hl rfl
theorem e_ld7R (hl : zlk M.1 pc = some (zi_ld 1 7 n)) : zev M pc (x0 :: x1 :: x2 :: x3 :: x4 :: x5 :: x6 :: zvr r :: L) st h = zev M n (x0 :: x1 :: x2 :: x3 :: x4 :: x5 :: x6 :: zvr r :: L) (zvr r :: st) h := ze_go hl rfl
theorem e_ld7J (hl : zlk M.1 pc = some (zi_ld 2 7 n)) : zev M pc (x0 :: x1 :: x2 :: x3 :: x4 :: x5 :: x6 :: zvl a :: L) st h = zev M n (x0 :: x1 :: x2 :: x3 :: x4 :: x5 :: x6 :: zvl a :: L) (zvl a :: st) h := ze_go hl rfl
theorem e_st7I (hl : zlk M.1 pc = some (zi_st 0 7 n)) (hx : zisL x6 = false) : zev M pc (x0 :: x1 :: x2 :: x3 :: x4 :: x5 :: x6 :: x7 :: L) (zvi a :: st) h = zev M n (x0 :: x1 :: x2 :: x3 :: x4 :: x5 :: x6 :: zvi a :: L) st h := ze_go hl ((zi_st_pos rfl (by simp only [List.length_cons]; omega)).trans (by have e1 : zclr (x0 :: x1 :: x2 :: x3 :: x4 :: x5 :: x6 :: x7 :: L) 7 = (bif zisL x6 then (x0 :: x1 :: x2 :: x3 :: x4 :: x5 :: x6 :: x7 :: L).set 6 zvu else (x0 :: x1 :: x2 :: x3 :: x4 :: x5 :: x6 :: x7 :: L)) := rfl; rw [e1, hx]; rfl))
theorem e_st7R (hl : zlk M.1 pc = some (zi_st 1 7 n)) (hx : zisL x6 = false) : zev M pc (x0 :: x1 :: x2 :: x3 :: x4 :: x5 :: x6 :: x7 :: L) (zvr r :: st) h = zev M n (x0 :: x1 :: x2 :: x3 :: x4 :: x5 :: x6 :: zvr r :: L) st h := ze_go hl ((zi_st_pos rfl (by simp only [List.length_cons]; omega)).trans (by have e1 : zclr (x0 :: x1 :: x2 :: x3 :: x4 :: x5 :: x6 :: x7 :: L) 7 = (bif zisL x6 then (x0 :: x1 :: x2 :: x3 :: x4 :: x5 :: x6 :: x7 :: L).set 6 zvu else (x0 :: x1 :: x2 :: x3 :: x4 :: x5 :: x6 :: x7 :: L)) := rfl; rw [e1, hx]; rfl))
theorem e_stJ7 (hl : zlk M.1 pc = some (zi_stL 7 n)) (hx : zisL x6 = false) : zev M pc (x0 :: x1 :: x2 :: x3 :: x4 :: x5 :: x6 :: x7 :: x8 :: L) (zvl a :: st) h = zev M n (x0 :: x1 :: x2 :: x3 :: x4 :: x5 :: x6 :: zvl a :: zvu :: L) st h := ze_go hl ((zi_stL_pos rfl (by simp only [List.length_cons]; omega)).trans (by have e1 : zclr (x0 :: x1 :: x2 :: x3 :: x4 :: x5 :: x6 :: x7 :: x8 :: L) 7 = (bif zisL x6 then (x0 :: x1 :: x2 :: x3 :: x4 :: x5 :: x6 :: x7 :: x8 :: L).set 6 zvu else (x0 :: x1 :: x2 :: x3 :: x4 :: x5 :: x6 :: x7 :: x8 :: L)) := rfl; rw [e1, hx]; rfl))
theorem e_iinc7 {d : Int} (hl : zlk M.1 pc = some (zi_iinc 7 d n)) (hx : zisL x6 = false) : zev M pc (x0 :: x1 :: x2 :: x3 :: x4 :: x5 :: x6 :: zvi a :: L) st h = zev M n (x0 :: x1 :: x2 :: x3 :: x4 :: x5 :: x6 :: zvi (w32 (a + d)) :: L) st h := ze_go hl (by simp [zi_iinc, zclr, hx, zgo, zvi])
theorem e_ld8I (hl : zlk M.1 pc = some (zi_ld 0 8 n)) : zev M pc (x0 :: x1 :: x2 :: x3 :: x4 :: x5 :: x6 :: x7 :: zvi a :: L) st h = zev M n (x0 :: x1 :: x2 :: x3 :: x4 :: x5 :: x6 :: x7 :: zvi a :: L) (zvi a :: st) h := ze_go hl rfl
theorem e_ld8R (hl : zlk M.1 pc = some (zi_ld 1 8 n)) : zev M pc (x0 :: x1 :: x2 :: x3 :: x4 :: x5 :: x6 :: x7 :: zvr r :: L) st h = zev M n (x0 :: x1 :: x2 :: x3 :: x4 :: x5 :: x6 :: x7 :: zvr r :: L) (zvr r :: st) h := ze_go hl rfl
theorem e_ld8J (hl : zlk M.1 pc = some (zi_ld 2 8 n)) : zev M pc (x0 :: x1 :: x2 :: x3 :: x4 :: x5 :: x6 :: x7 :: zvl a :: L) st h = zev M n (x0 :: x1 :: x2 :: x3 :: x4 :: x5 :: x6 :: x7 :: zvl a :: L) (zvl a :: st) h := ze_go hl rfl
theorem e_st8I (hl : zlk M.1 pc = some (zi_st 0 8 n)) (hx : zisL x7 = false) : zev M pc (x0 :: x1 :: x2 :: x3 :: x4 :: x5 :: x6 :: x7 :: x8 :: L) (zvi a :: st) h = zev M n (x0 :: x1 :: x2 :: x3 :: x4 :: x5 :: x6 :: x7 :: zvi a :: L) st h := ze_go hl ((zi_st_pos rfl (by simp only [List.length_cons]; omega)).trans (by have e1 : zclr (x0 :: x1 :: x2 :: x3 :: x4 :: x5 :: x6 :: x7 :: x8 :: L) 8 = (bif zisL x7 then (x0 :: x1 :: x2 :: x3 :: x4 :: x5 :: x6 :: x7 :: x8 :: L).set 7 zvu else (x0 :: x1 :: x2 :: x3 :: x4 :: x5 :: x6 :: x7 :: x8 :: L)) := rfl; rw [e1, hx]; rfl))
theorem e_st8R (hl : zlk M.1 pc = some (zi_st 1 8 n)) (hx : zisL x7 = false) : zev M pc (x0 :: x1 :: x2 :: x3 :: x4 :: x5 :: x6 :: x7 :: x8 :: L) (zvr r :: st) h = zev M n (x0 :: x1 :: x2 :: x3 :: x4 :: x5 :: x6 :: x7 :: zvr r :: L) st h := ze_go hl ((zi_st_pos rfl (by simp only [List.length_cons]; omega)).trans (by have e1 : zclr (x0 :: x1 :: x2 :: x3 :: x4 :: x5 :: x6 :: x7 :: x8 :: L) 8 = (bif zisL x7 then (x0 :: x1 :: x2 :: x3 :: x4 :: x5 :: x6 :: x7 :: x8 :: L).set 7 zvu else (x0 :: x1 :: x2 :: x3 :: x4 :: x5 :: x6 :: x7 :: x8 :: L)) := rfl; rw [e1, hx]; rfl))
theorem e_stJ8 (hl : zlk M.1 pc = some (zi_stL 8 n)) (hx : zisL x7 = false) : zev M pc (x0 :: x1 :: x2 :: x3 :: x4 :: x5 :: x6 :: x7 :: x8 :: x9 :: L) (zvl a :: st) h = zev M n (x0 :: x1 :: x2 :: x3 :: x4 :: x5 :: x6 :: x7 :: zvl a :: zvu :: L) st h := ze_go hl ((zi_stL_pos rfl (by simp only [List.length_cons]; omega)).trans (by have e1 : zclr (x0 :: x1 :: x2 :: x3 :: x4 :: x5 :: x6 :: x7 :: x8 :: x9 :: L) 8 = (bif zisL x7 then (x0 :: x1 :: x2 :: x3 :: x4 :: x5 :: x6 :: x7 :: x8 :: x9 :: L).set 7 zvu else (x0 :: x1 :: x2 :: x3 :: x4 :: x5 :: x6 :: x7 :: x8 :: x9 :: L)) := rfl; rw [e1, hx]; rfl))
theorem e_iinc8 {d : Int} (hl : zlk M.1 pc = some (zi_iinc 8 d n)) (hx : zisL x7 = false) : zev M pc (x0 :: x1 :: x2 :: x3 :: x4 :: x5 :: x6 :: x7 :: zvi a :: L) st h = zev M n (x0 :: x1 :: x2 :: x3 :: x4 :: x5 :: x6 :: x7 :: zvi (w32 (a + d)) :: L) st h := ze_go hl (by simp [zi_iinc, zclr, hx, zgo, zvi])
theorem e_ld9I (hl : zlk M.1 pc = some (zi_ld 0 9 n)) : zev M pc (x0 :: x1 :: x2 :: x3 :: x4 :: x5 :: x6 :: x7 :: x8 :: zvi a :: L) st h = zev M n (x0 :: x1 :: x2 :: x3 :: x4 :: x5 :: x6 :: x7 :: x8 :: zvi a :: L) (zvi a :: st) h := ze_go hl rfl
theorem e_ld9R (hl : zlk M.1 pc = some (zi_ld 1 9 n)) : zev M pc (x0 :: x1 :: x2 :: x3 :: x4 :: x5 :: x6 :: x7 :: x8 :: zvr r :: L) st h = zev M n (x0 :: x1 :: x2 :: x3 :: x4 :: x5 :: x6 :: x7 :: x8 :: zvr r :: L) (zvr r :: st) h := ze_go hl rfl
theorem e_ld9J (hl : zlk M.1 pc = some (zi_ld 2 9 n)) : zev M pc (x0 :: x1 :: x2 :: x3 :: x4 :: x5 :: x6 :: x7 :: x8 :: zvl a :: L) st h = zev M n (x0 :: x1 :: x2 :: x3 :: x4 :: x5 :: x6 :: x7 :: x8 :: zvl a :: L) (zvl a :: st) h := ze_go hl rfl
theorem e_st9I (hl : zlk M.1 pc = some (zi_st 0 9 n)) (hx : zisL x8 = false) : zev M pc (x0 :: x1 :: x2 :: x3 :: x4 :: x5 :: x6 :: x7 :: x8 :: x9 :: L) (zvi a :: st) h = zev M n (x0 :: x1 :: x2 :: x3 :: x4 :: x5 :: x6 :: x7 :: x8 :: zvi a :: L) st h := ze_go hl ((zi_st_pos rfl (by simp only [List.length_cons]; omega)).trans (by have e1 : zclr (x0 :: x1 :: x2 :: x3 :: x4 :: x5 :: x6 :: x7 :: x8 :: x9 :: L) 9 = (bif zisL x8 then (x0 :: x1 :: x2 :: x3 :: x4 :: x5 :: x6 :: x7 :: x8 :: x9 :: L).set 8 zvu else (x0 :: x1 :: x2 :: x3 :: x4 :: x5 :: x6 :: x7 :: x8 :: x9 :: L)) := rfl; rw [e1, hx]; rfl))
theorem e_st9R (hl : zlk M.1 pc = some (zi_st 1 9 n)) (hx : zisL x8 = false) : zev M pc (x0 :: x1 :: x2 :: x3 :: x4 :: x5 :: x6 :: x7 :: x8 :: x9 :: L) (zvr r :: st) h = zev M n (x0 :: x1 :: x2 :: x3 :: x4 :: x5 :: x6 :: x7 :: x8 :: zvr r :: L) st h := ze_go hl ((zi_st_pos rfl (by simp only [List.length_cons]; omega)).trans (by have e1 : zclr (x0 :: x1 :: x2 :: x3 :: x4 :: x5 :: x6 :: x7 :: x8 :: x9 :: L) 9 = (bif zisL x8 then (x0 :: x1 :: x2 :: x3 :: x4 :: x5 :: x6 :: x7 :: x8 :: x9 :: L).set 8 zvu else (x0 :: x1 :: x2 :: x3 :: x4 :: x5 :: x6 :: x7 :: x8 :: x9 :: L)) := rfl; rw [e1, hx]; rfl))
theorem e_stJ9 (hl : zlk M.1 pc = some (zi_stL 9 n)) (hx : zisL x8 = false) : zev M pc (x0 :: x1 :: x2 :: x3 :: x4 :: x5 :: x6 :: x7 :: x8 :: x9 :: x10 :: L) (zvl a :: st) h = zev M n (x0 :: x1 :: x2 :: x3 :: x4 :: x5 :: x6 :: x7 :: x8 :: zvl a :: zvu :: L) st h := ze_go hl ((zi_stL_pos rfl (by simp only [List.length_cons]; omega)).trans (by have e1 : zclr (x0 :: x1 :: x2 :: x3 :: x4 :: x5 :: x6 :: x7 :: x8 :: x9 :: x10 :: L) 9 = (bif zisL x8 then (x0 :: x1 :: x2 :: x3 :: x4 :: x5 :: x6 :: x7 :: x8 :: x9 :: x10 :: L).set 8 zvu else (x0 :: x1 :: x2 :: x3 :: x4 :: x5 :: x6 :: x7 :: x8 :: x9 :: x10 :: L)) := rfl; rw [e1, hx]; rfl))
theorem e_iinc9 {d : Int} (hl : zlk M.1 pc = some (zi_iinc 9 d n)) (hx : zisL x8 = false) : zev M pc (x0 :: x1 :: x2 :: x3 :: x4 :: x5 :: x6 :: x7 :: x8 :: zvi a :: L) st h = zev M n (x0 :: x1 :: x2 :: x3 :: x4 :: x5 :: x6 :: x7 :: x8 :: zvi (w32 (a + d)) :: L) st h := ze_go hl (by simp [zi_iinc, zclr, hx, zgo, zvi])
theorem e_ld10I (hl : zlk M.1 pc = some (zi_ld 0 10 n)) : zev M pc (x0 :: x1 :: x2 :: x3 :: x4 :: x5 :: x6 :: x7 :: x8 :: x9 :: zvi a :: L) st h = zev M n (x0 :: x1 :: x2 :: x3 :: x4 :: x5 :: x6 :: x7 :: x8 :: x9 :: zvi a :: L) (zvi a :: st) h := ze_go hl rfl
theorem e_ld10R (hl : zlk M.1 pc = some (zi_ld 1 10 n)) : zev M pc (x0 :: x1 :: x2 :: x3 :: x4 :: x5 :: x6 :: x7 :: x8 :: x9 :: zvr r :: L) st h = zev M n (x0 :: x1 :: x2 :: x3 :: x4 :: x5 :: x6 :: x7 :: x8 :: x9 :: zvr r :: L) (zvr r :: st) h := ze_go hl rfl
theorem e_ld10J (hl : zlk M.1 pc = some (zi_ld 2 10 n)) : zev M pc (x0 :: x1 :: x2 :: x3 :: x4 :: x5 :: x6 :: x7 :: x8 :: x9 :: zvl a :: L) st h = zev M n (x0 :: x1 :: x2 :: x3 :: x4 :: x5 :: x6 :: x7 :: x8 :: x9 :: zvl a :: L) (zvl a :: st) h := ze_go hl rfl
theorem e_st10I (hl : zlk M.1 pc = some (zi_st 0 10 n)) (hx : zisL x9 = false) : zev M pc (x0 :: x1 :: x2 :: x3 :: x4 :: x5 :: x6 :: x7 :: x8 :: x9 :: x10 :: L) (zvi a :: st) h = zev M n (x0 :: x1 :: x2 :: x3 :: x4 :: x5 :: x6 :: x7 :: x8 :: x9 :: zvi a :: L) st h := ze_go hl ((zi_st_pos rfl (by simp only [List.length_cons]; omega)).trans (by have e1 : zclr (x0 :: x1 :: x2 :: x3 :: x4 :: x5 :: x6 :: x7 :: x8 :: x9 :: x10 :: L) 10 = (bif zisL x9 then (x0 :: x1 :: x2 :: x3 :: x4 :: x5 :: x6 :: x7 :: x8 :: x9 :: x10 :: L).set 9 zvu else (x0 :: x1 :: x2 :: x3 :: x4 :: x5 :: x6 :: x7 :: x8 :: x9 :: x10 :: L)) := rfl; rw [e1, hx]; rfl))
theorem e_st10R (hl : zlk M.1 pc = some (zi_st 1 10 n)) (hx : zisL x9 = false) : zev M pc (x0 :: x1 :: x2 :: x3 :: x4 :: x5 :: x6 :: x7 :: x8 :: x9 :: x10 :: L) (zvr r :: st) h = zev M n (x0 :: x1 :: x2 :: x3 :: x4 :: x5 :: x6 :: x7 :: x8 :: x9 :: zvr r :: L) st h := ze_go hl ((zi_st_pos rfl (by simp only [List.length_cons]; omega)).trans (by have e1 : zclr (x0 :: x1 :: x2 :: x3 :: x4 :: x5 :: x6 :: x7 :: x8 :: x9 :: x10 :: L) 10 = (bif zisL x9 then (x0 :: x1 :: x2 :: x3 :: x4 :: x5 :: x6 :: x7 :: x8 :: x9 :: x10 :: L).set 9 zvu else (x0 :: x1 :: x2 :: x3 :: x4 :: x5 :: x6 :: x7 :: x8 :: x9 :: x10 :: L)) := rfl; rw [e1, hx]; rfl))
theorem e_stJ10 (hl : zlk M.1 pc = some (zi_stL 10 n)) (hx : zisL x9 = false) : zev M pc (x0 :: x1 :: x2 :: x3 :: x4 :: x5 :: x6 :: x7 :: x8 :: x9 :: x10 :: x11 :: L) (zvl a :: st) h = zev M n (x0 :: x1 :: x2 :: x3 :: x4 :: x5 :: x6 :: x7 :: x8 :: x9 :: zvl a :: zvu :: L) st h := ze_go hl ((zi_stL_pos rfl (by simp only [List.length_cons]; omega)).trans (by have e1 : zclr (x0 :: x1 :: x2 :: x3 :: x4 :: x5 :: x6 :: x7 :: x8 :: x9 :: x10 :: x11 :: L) 10 = (bif zisL x9 then (x0 :: x1 :: x2 :: x3 :: x4 :: x5 :: x6 :: x7 :: x8 :: x9 :: x10 :: x11 :: L).set 9 zvu else (x0 :: x1 :: x2 :: x3 :: x4 :: x5 :: x6 :: x7 :: x8 :: x9 :: x10 :: x11 :: L)) := rfl; rw [e1, hx]; rfl))
theorem e_iinc10 {d : Int} (hl : zlk M.1 pc = some (zi_iinc 10 d n)) (hx : zisL x9 = false) : zev M pc (x0 :: x1 :: x2 :: x3 :: x4 :: x5 :: x6 :: x7 :: x8 :: x9 :: zvi a :: L) st h = zev M n (x0 :: x1 :: x2 :: x3 :: x4 :: x5 :: x6 :: x7 :: x8 :: x9 :: zvi (w32 (a + d)) :: L) st h := ze_go hl (by simp [zi_iinc, zclr, hx, zgo, zvi])
theorem e_ld11I (hl : zlk M.1 pc = some (zi_ld 0 11 n)) : zev M pc (x0 :: x1 :: x2 :: x3 :: x4 :: x5 :: x6 :: x7 :: x8 :: x9 :: x10 :: zvi a :: L) st h = zev M n (x0 :: x1 :: x2 :: x3 :: x4 :: x5 :: x6 :: x7 :: x8 :: x9 :: x10 :: zvi a :: L) (zvi a :: st) h := ze_go hl rfl
theorem e_ld11R (hl : zlk M.1 pc = some (zi_ld 1 11 n)) : zev M pc (x0 :: x1 :: x2 :: x3 :: x4 :: x5 :: x6 :: x7 :: x8 :: x9 :: x10 :: zvr r :: L) st h = zev M n (x0 :: x1 :: x2 :: x3 :: x4 :: x5 :: x6 :: x7 :: x8 :: x9 :: x10 :: zvr r :: L) (zvr r :: st) h := ze_go hl rfl
theorem e_ld11J (hl : zlk M.1 pc = some (zi_ld 2 11 n)) : zev M pc (x0 :: x1 :: x2 :: x3 :: x4 :: x5 :: x6 :: x7 :: x8 :: x9 :: x10 :: zvl a :: L) st h = zev M n (x0 :: x1 :: x2 :: x3 :: x4 :: x5 :: x6 :: x7 :: x8 :: x9 :: x10 :: zvl a :: L) (zvl a :: st) h := ze_go hl rfl
theorem e_st11I (hl : zlk M.1 pc = some (zi_st 0 11 n)) (hx : zisL x10 = false) : zev M pc (x0 :: x1 :: x2 :: x3 :: x4 :: x5 :: x6 :: x7 :: x8 :: x9 :: x10 :: x11 :: L) (zvi a :: st) h = zev M n (x0 :: x1 :: x2 :: x3 :: x4 :: x5 :: x6 :: x7 :: x8 :: x9 :: x10 :: zvi a :: L) st h := ze_go hl ((zi_st_pos rfl (by simp only [List.length_cons]; omega)).trans (by have e1 : zclr (x0 :: x1 :: x2 :: x3 :: x4 :: x5 :: x6 :: x7 :: x8 :: x9 :: x10 :: x11 :: L) 11 = (bif zisL x10 then (x0 :: x1 :: x2 :: x3 :: x4 :: x5 :: x6 :: x7 :: x8 :: x9 :: x10 :: x11 :: L).set 10 zvu else (x0 :: x1 :: x2 :: x3 :: x4 :: x5 :: x6 :: x7 :: x8 :: x9 :: x10 :: x11 :: L)) := rfl; rw [e1, hx]; rfl))
theorem e_st11R (hl : zlk M.1 pc = some (zi_st 1 11 n)) (hx : zisL x10 = false) : zev M pc (x0 :: x1 :: x2 :: x3 :: x4 :: x5 :: x6 :: x7 :: x8 :: x9 :: x10 :: x11 :: L) (zvr r :: st) h = zev M n (x0 :: x1 :: x2 :: x3 :: x4 :: x5 :: x6 :: x7 :: x8 :: x9 :: x10 :: zvr r :: L) st h := ze_go hl ((zi_st_pos rfl (by simp only [List.length_cons]; omega)).trans (by have e1 : zclr (x0 :: x1 :: x2 :: x3 :: x4 :: x5 :: x6 :: x7 :: x8 :: x9 :: x10 :: x11 :: L) 11 = (bif zisL x10 then (x0 :: x1 :: x2 :: x3 :: x4 :: x5 :: x6 :: x7 :: x8 :: x9 :: x10 :: x11 :: L).set 10 zvu else (x0 :: x1 :: x2 :: x3 :: x4 :: x5 :: x6 :: x7 :: x8 :: x9 :: x10 :: x11 :: L)) := rfl; rw [e1, hx]; rfl))
theorem e_stJ11 (hl : zlk M.1 pc = some (zi_stL 11 n)) (hx : zisL x10 = false) : zev M pc (x0 :: x1 :: x2 :: x3 :: x4 :: x5 :: x6 :: x7 :: x8 :: x9 :: x10 :: x11 :: x12 :: L) (zvl a :: st) h = zev M n (x0 :: x1 :: x2 :: x3 :: x4 :: x5 :: x6 :: x7 :: x8 :: x9 :: x10 :: zvl a :: zvu :: L) st h := ze_go hl ((zi_stL_pos rfl (by simp only [List.length_cons]; omega)).trans (by have e1 : zclr (x0 :: x1 :: x2 :: x3 :: x4 :: x5 :: x6 :: x7 :: x8 :: x9 :: x10 :: x11 :: x12 :: L) 11 = (bif zisL x10 then (x0 :: x1 :: x2 :: x3 :: x4 :: x5 :: x6 :: x7 :: x8 :: x9 :: x10 :: x11 :: x12 :: L).set 10 zvu else (x0 :: x1 :: x2 :: x3 :: x4 :: x5 :: x6 :: x7 :: x8 :: x9 :: x10 :: x11 :: x12 :: L)) := rfl; rw [e1, hx]; rfl))
theorem e_iinc11 {d : Int} (hl : zlk M.1 pc = some (zi_iinc 11 d n)) (hx : zisL x10 = false) : zev M pc (x0 :: x1 :: x2 :: x3 :: x4 :: x5 :: x6 :: x7 :: x8 :: x9 :: x10 :: zvi a :: L) st h = zev M n (x0 :: x1 :: x2 :: x3 :: x4 :: x5 :: x6 :: x7 :: x8 :: x9 :: x10 :: zvi (w32 (a + d)) :: L) st h := ze_go hl (by simp [zi_iinc, zclr, hx, zgo, zvi])
theorem e_ld12I (hl : zlk M.1 pc = some (zi_ld 0 12 n)) : zev M pc (x0 :: x1 :: x2 :: x3 :: x4 :: x5 :: x6 :: x7 :: x8 :: x9 :: x10 :: x11 :: zvi a :: L) st h = zev M n (x0 :: x1 :: x2 :: x3 :: x4 :: x5 :: x6 :: x7 :: x8 :: x9 :: x10 :: x11 :: zvi a :: L) (zvi a :: st) h := ze_go hl rfl
theorem e_ld12R (hl : zlk M.1 pc = some (zi_ld 1 12 n)) : zev M pc (x0 :: x1 :: x2 :: x3 :: x4 :: x5 :: x6 :: x7 :: x8 :: x9 :: x10 :: x11 :: zvr r :: L) st h = zev M n (x0 :: x1 :: x2 :: x3 :: x4 :: x5 :: x6 :: x7 :: x8 :: x9 :: x10 :: x11 :: zvr r :: L) (zvr r :: st) h := ze_go hl rfl
theorem e_ld12J (hl : zlk M.1 pc = some (zi_ld 2 12 n)) : zev M pc (x0 :: x1 :: x2 :: x3 :: x4 :: x5 :: x6 :: x7 :: x8 :: x9 :: x10 :: x11 :: zvl a :: L) st h = zev M n (x0 :: x1 :: x2 :: x3 :: x4 :: x5 :: x6 :: x7 :: x8 :: x9 :: x10 :: x11 :: zvl a :: L) (zvl a :: st) h := ze_go hl rfl
theorem e_st12I (hl : zlk M.1 pc = some (zi_st 0 12 n)) (hx : zisL x11 = false) : zev M pc (x0 :: x1 :: x2 :: x3 :: x4 :: x5 :: x6 :: x7 :: x8 :: x9 :: x10 :: x11 :: x12 :: L) (zvi a :: st) h = zev M n (x0 :: x1 :: x2 :: x3 :: x4 :: x5 :: x6 :: x7 :: x8 :: x9 :: x10 :: x11 :: zvi a :: L) st h := ze_go hl ((zi_st_pos rfl (by simp only [List.length_cons]; omega)).trans (by have e1 : zclr (x0 :: x1 :: x2 :: x3 :: x4 :: x5 :: x6 :: x7 :: x8 :: x9 :: x10 :: x11 :: x12 :: L) 12 = (bif zisL x11 then (x0 :: x1 :: x2 :: x3 :: x4 :: x5 :: x6 :: x7 :: x8 :: x9 :: x10 :: x11 :: x12 :: L).set 11 zvu else (x0 :: x1 :: x2 :: x3 :: x4 :: x5 :: x6 :: x7 :: x8 :: x9 :: x10 :: x11 :: x12 :: L)) := rfl; rw [e1, hx]; rfl))
theorem e_st12R (hl : zlk M.1 pc = some (zi_st 1 12 n)) (hx : zisL x11 = false) : zev M pc (x0 :: x1 :: x2 :: x3 :: x4 :: x5 :: x6 :: x7 :: x8 :: x9 :: x10 :: x11 :: x12 :: L) (zvr r :: st) h = zev M n (x0 :: x1 :: x2 :: x3 :: x4 :: x5 :: x6 :: x7 :: x8 :: x9 :: x10 :: x11 :: zvr r :: L) st h := ze_go hl ((zi_st_pos rfl (by simp only [List.length_cons]; omega)).trans (by have e1 : zclr (x0 :: x1 :: x2 :: x3 :: x4 :: x5 :: x6 :: x7 :: x8 :: x9 :: x10 :: x11 :: x12 :: L) 12 = (bif zisL x11 then (x0 :: x1 :: x2 :: x3 :: x4 :: x5 :: x6 :: x7 :: x8 :: x9 :: x10 :: x11 :: x12 :: L).set 11 zvu else (x0 :: x1 :: x2 :: x3 :: x4 :: x5 :: x6 :: x7 :: x8 :: x9 :: x10 :: x11 :: x12 :: L)) := rfl; rw [e1, hx]; rfl))
theorem e_stJ12 (hl : zlk M.1 pc = some (zi_stL 12 n)) (hx : zisL x11 = false) : zev M pc (x0 :: x1 :: x2 :: x3 :: x4 :: x5 :: x6 :: x7 :: x8 :: x9 :: x10 :: x11 :: x12 :: x13 :: L) (zvl a :: st) h = zev M n (x0 :: x1 :: x2 :: x3 :: x4 :: x5 :: x6 :: x7 :: x8 :: x9 :: x10 :: x11 :: zvl a :: zvu :: L) st h := ze_go hl ((zi_stL_pos rfl (by simp only [List.length_cons]; omega)).trans (by have e1 : zclr (x0 :: x1 :: x2 :: x3 :: x4 :: x5 :: x6 :: x7 :: x8 :: x9 :: x10 :: x11 :: x12 :: x13 :: L) 12 = (bif zisL x11 then (x0 :: x1 :: x2 :: x3 :: x4 :: x5 :: x6 :: x7 :: x8 :: x9 :: x10 :: x11 :: x12 :: x13 :: L).set 11 zvu else (x0 :: x1 :: x2 :: x3 :: x4 :: x5 :: x6 :: x7 :: x8 :: x9 :: x10 :: x11 :: x12 :: x13 :: L)) := rfl; rw [e1, hx]; rfl))
theorem e_iinc12 {d : Int} (hl : zlk M.1 pc = some (zi_iinc 12 d n)) (hx : zisL x11 = false) : zev M pc (x0 :: x1 :: x2 :: x3 :: x4 :: x5 :: x6 :: x7 :: x8 :: x9 :: x10 :: x11 :: zvi a :: L) st h = zev M n (x0 :: x1 :: x2 :: x3 :: x4 :: x5 :: x6 :: x7 :: x8 :: x9 :: x10 :: x11 :: zvi (w32 (a + d)) :: L) st h := ze_go hl (by simp [zi_iinc, zclr, hx, zgo, zvi])
theorem e_ld13I (hl : zlk M.1 pc = some (zi_ld 0 13 n)) : zev M pc (x0 :: x1 :: x2 :: x3 :: x4 :: x5 :: x6 :: x7 :: x8 :: x9 :: x10 :: x11 :: x12 :: zvi a :: L) st h = zev M n (x0 :: x1 :: x2 :: x3 :: x4 :: x5 :: x6 :: x7 :: x8 :: x9 :: x10 :: x11 :: x12 :: zvi a :: L) (zvi a :: st) h := ze_go hl rfl
theorem e_ld13R (hl : zlk M.1 pc = some (zi_ld 1 13 n)) : zev M pc (x0 :: x1 :: x2 :: x3 :: x4 :: x5 :: x6 :: x7 :: x8 :: x9 :: x10 :: x11 :: x12 :: zvr r :: L) st h = zev M n (x0 :: x1 :: x2 :: x3 :: x4 :: x5 :: x6 :: x7 :: x8 :: x9 :: x10 :: x11 :: x12 :: zvr r :: L) (zvr r :: st) h := ze_go hl rfl
theorem e_ld13J (hl : zlk M.1 pc = some (zi_ld 2 13 n)) : zev M pc (x0 :: x1 :: x2 :: x3 :: x4 :: x5 :: x6 :: x7 :: x8 :: x9 :: x10 :: x11 :: x12 :: zvl a :: L) st h = zev M n (x0 :: x1 :: x2 :: x3 :: x4 :: x5 :: x6 :: x7 :: x8 :: x9 :: x10 :: x11 :: x12 :: zvl a :: L) (zvl a :: st) h := ze_go hl rfl
theorem e_st13I (hl : zlk M.1 pc = some (zi_st 0 13 n)) (hx : zisL x12 = false) : zev M pc (x0 :: x1 :: x2 :: x3 :: x4 :: x5 :: x6 :: x7 :: x8 :: x9 :: x10 :: x11 :: x12 :: x13 :: L) (zvi a :: st) h = zev M n (x0 :: x1 :: x2 :: x3 :: x4 :: x5 :: x6 :: x7 :: x8 :: x9 :: x10 :: x11 :: x12 :: zvi a :: L) st h := ze_go hl ((zi_st_pos rfl (by simp only [List.length_cons]; omega)).trans (by have e1 : zclr (x0 :: x1 :: x2 :: x3 :: x4 :: x5 :: x6 :: x7 :: x8 :: x9 :: x10 :: x11 :: x12 :: x13 :: L) 13 = (bif zisL x12 then (x0 :: x1 :: x2 :: x3 :: x4 :: x5 :: x6 :: x7 :: x8 :: x9 :: x10 :: x11 :: x12 :: x13 :: L).set 12 zvu else (x0 :: x1 :: x2 :: x3 :: x4 :: x5 :: x6 :: x7 :: x8 :: x9 :: x10 :: x11 :: x12 :: x13 :: L)) := rfl; rw [e1, hx]; rfl))
theorem e_st13R (hl : zlk M.1 pc = some (zi_st 1 13 n)) (hx : zisL x12 = false) : zev M pc (x0 :: x1 :: x2 :: x3 :: x4 :: x5 :: x6 :: x7 :: x8 :: x9 :: x10 :: x11 :: x12 :: x13 :: L) (zvr r :: st) h = zev M n (x0 :: x1 :: x2 :: x3 :: x4 :: x5 :: x6 :: x7 :: x8 :: x9 :: x10 :: x11 :: x12 :: zvr r :: L) st h := ze_go hl ((zi_st_pos rfl (by simp only [List.length_cons]; omega)).trans (by have e1 : zclr (x0 :: x1 :: x2 :: x3 :: x4 :: x5 :: x6 :: x7 :: x8 :: x9 :: x10 :: x11 :: x12 :: x13 :: L) 13 = (bif zisL x12 then (x0 :: x1 :: x2 :: x3 :: x4 :: x5 :: x6 :: x7 :: x8 :: x9 :: x10 :: x11 :: x12 :: x13 :: L).set 12 zvu else (x0 :: x1 :: x2 :: x3 :: x4 :: x5 :: x6 :: x7 :: x8 :: x9 :: x10 :: x11 :: x12 :: x13 :: L)) := rfl; rw [e1, hx]; rfl))
theorem e_stJ13 (hl : zlk M.1 pc = some (zi_stL 13 n)) (hx : zisL x12 = false) : zev M pc (x0 :: x1 :: x2 :: x3 :: x4 :: x5 :: x6 :: x7 :: x8 :: x9 :: x10 :: x11 :: x12 :: x13 :: x14 :: L) (zvl a :: st) h = zev M n (x0 :: x1 :: x2 :: x3 :: x4 :: x5 :: x6 :: x7 :: x8 :: x9 :: x10 :: x11 :: x12 :: zvl a :: zvu :: L) st h := ze_go hl ((zi_stL_pos rfl (by simp only [List.length_cons]; omega)).trans (by have e1 : zclr (x0 :: x1 :: x2 :: x3 :: x4 :: x5 :: x6 :: x7 :: x8 :: x9 :: x10 :: x11 :: x12 :: x13 :: x14 :: L) 13 = (bif zisL x12 then (x0 :: x1 :: x2 :: x3 :: x4 :: x5 :: x6 :: x7 :: x8 :: x9 :: x10 :: x11 :: x12 :: x13 :: x14 :: L).set 12 zvu else (x0 :: x1 :: x2 :: x3 :: x4 :: x5 :: x6 :: x7 :: x8 :: x9 :: x10 :: x11 :: x12 :: x13 :: x14 :: L)) := rfl; rw [e1, hx]; rfl))
theorem e_iinc13 {d : Int} (hl : zlk M.1 pc = some (zi_iinc 13 d n)) (hx : zisL x12 = false) : zev M pc (x0 :: x1 :: x2 :: x3 :: x4 :: x5 :: x6 :: x7 :: x8 :: x9 :: x10 :: x11 :: x12 :: zvi a :: L) st h = zev M n (x0 :: x1 :: x2 :: x3 :: x4 :: x5 :: x6 :: x7 :: x8 :: x9 :: x10 :: x11 :: x12 :: zvi (w32 (a + d)) :: L) st h := ze_go hl (by simp [zi_iinc, zclr, hx, zgo, zvi])
theorem e_ld14I (hl : zlk M.1 pc = some (zi_ld 0 14 n)) : zev M pc (x0 :: x1 :: x2 :: x3 :: x4 :: x5 :: x6 :: x7 :: x8 :: x9 :: x10 :: x11 :: x12 :: x13 :: zvi a :: L) st h = zev M n (x0 :: x1 :: x2 :: x3 :: x4 :: x5 :: x6 :: x7 :: x8 :: x9 :: x10 :: x11 :: x12 :: x13 :: zvi a :: L) (zvi a :: st) h := ze_go hl rfl
theorem e_ld14R (hl : zlk M.1 pc = some (zi_ld 1 14 n)) : zev M pc (x0 :: x1 :: x2 :: x3 :: x4 :: x5 :: x6 :: x7 :: x8 :: x9 :: x10 :: x11 :: x12 :: x13 :: zvr r :: L) st h = zev M n (x0 :: x1 :: x2 :: x3 :: x4 :: x5 :: x6 :: x7 :: x8 :: x9 :: x10 :: x11 :: x12 :: x13 :: zvr r :: L) (zvr r :: st) h := ze_go hl rfl
theorem e_ld14J (hl : zlk M.1 pc = some (zi_ld 2 14 n)) : zev M pc (x0 :: x1 :: x2 :: x3 :: x4 :: x5 :: x6 :: x7 :: x8 :: x9 :: x10 :: x11 :: x12 :: x13 :: zvl a :: L) st h = zev M n (x0 :: x1 :: x2 :: x3 :: x4 :: x5 :: x6 :: x7 :: x8 :: x9 :: x10 :: x11 :: x12 :: x13 :: zvl a :: L) (zvl a :: st) h := ze_go hl rfl
theorem e_st14I (hl : zlk M.1 pc = some (zi_st 0 14 n)) (hx : zisL x13 = false) : zev M pc (x0 :: x1 :: x2 :: x3 :: x4 :: x5 :: x6 :: x7 :: x8 :: x9 :: x10 :: x11 :: x12 :: x13 :: x14 :: L) (zvi a :: st) h = zev M n (x0 :: x1 :: x2 :: x3 :: x4 :: x5 :: x6 :: x7 :: x8 :: x9 :: x10 :: x11 :: x12 :: x13 :: zvi a :: L) st h := ze_go hl ((zi_st_pos rfl (by simp only [List.length_cons]; omega)).trans (by have e1 : zclr (x0 :: x1 :: x2 :: x3 :: x4 :: x5 :: x6 :: x7 :: x8 :: x9 :: x10 :: x11 :: x12 :: x13 :: x14 :: L) 14 = (bif zisL x13 then (x0 :: x1 :: x2 :: x3 :: x4 :: x5 :: x6 :: x7 :: x8 :: x9 :: x10 :: x11 :: x12 :: x13 :: x14 :: L).set 13 zvu else (x0 :: x1 :: x2 :: x3 :: x4 :: x5 :: x6 :: x7 :: x8 :: x9 :: x10 :: x11 :: x12 :: x13 :: x14 :: L)) := rfl; rw [e1, hx]; rfl))
theorem e_st14R (hl : zlk M.1 pc = some (zi_st 1 14 n)) (hx : zisL x13 = false) : zev M pc (x0 :: x1 :: x2 :: x3 :: x4 :: x5 :: x6 :: x7 :: x8 :: x9 :: x10 :: x11 :: x12 :: x13 :: x14 :: L) (zvr r :: st) h = zev M n (x0 :: x1 :: x2 :: x3 :: x4 :: x5 :: x6 :: x7 :: x8 :: x9 :: x10 :: x11 :: x12 :: x13 :: zvr r :: L) st h := ze_go hl ((zi_st_pos rfl (by simp only [List.length_cons]; omega)).trans (by have e1 : zclr (x0 :: x1 :: x2 :: x3 :: x4 :: x5 :: x6 :: x7 :: x8 :: x9 :: x10 :: x11 :: x12 :: x13 :: x14 :: L) 14 = (bif zisL x13 then (x0 :: x1 :: x2 :: x3 :: x4 :: x5 :: x6 :: x7 :: x8 :: x9 :: x10 :: x11 :: x12 :: x13 :: x14 :: L).set 13 zvu else (x0 :: x1 :: x2 :: x3 :: x4 :: x5 :: x6 :: x7 :: x8 :: x9 :: x10 :: x11 :: x12 :: x13 :: x14 :: L)) := rfl; rw [e1, hx]; rfl))
theorem e_stJ14 (hl : zlk M.1 pc = some (zi_stL 14 n)) (hx : zisL x13 = false) : zev M pc (x0 :: x1 :: x2 :: x3 :: x4 :: x5 :: x6 :: x7 :: x8 :: x9 :: x10 :: x11 :: x12 :: x13 :: x14 :: x15 :: L) (zvl a :: st) h = zev M n (x0 :: x1 :: x2 :: x3 :: x4 :: x5 :: x6 :: x7 :: x8 :: x9 :: x10 :: x11 :: x12 :: x13 :: zvl a :: zvu :: L) st h := ze_go hl ((zi_stL_pos rfl (by simp only [List.length_cons]; omega)).trans (by have e1 : zclr (x0 :: x1 :: x2 :: x3 :: x4 :: x5 :: x6 :: x7 :: x8 :: x9 :: x10 :: x11 :: x12 :: x13 :: x14 :: x15 :: L) 14 = (bif zisL x13 then (x0 :: x1 :: x2 :: x3 :: x4 :: x5 :: x6 :: x7 :: x8 :: x9 :: x10 :: x11 :: x12 :: x13 :: x14 :: x15 :: L).set 13 zvu else (x0 :: x1 :: x2 :: x3 :: x4 :: x5 :: x6 :: x7 :: x8 :: x9 :: x10 :: x11 :: x12 :: x13 :: x14 :: x15 :: L)) := rfl; rw [e1, hx]; rfl))
theorem e_iinc14 {d : Int} (hl : zlk M.1 pc = some (zi_iinc 14 d n)) (hx : zisL x13 = false) : zev M pc (x0 :: x1 :: x2 :: x3 :: x4 :: x5 :: x6 :: x7 :: x8 :: x9 :: x10 :: x11 :: x12 :: x13 :: zvi a :: L) st h = zev M n (x0 :: x1 :: x2 :: x3 :: x4 :: x5 :: x6 :: x7 :: x8 :: x9 :: x10 :: x11 :: x12 :: x13 :: zvi (w32 (a + d)) :: L) st h := ze_go hl (by simp [zi_iinc, zclr, hx, zgo, zvi])
theorem e_ld15I (hl : zlk M.1 pc = some (zi_ld 0 15 n)) : zev M pc (x0 :: x1 :: x2 :: x3 :: x4 :: x5 :: x6 :: x7 :: x8 :: x9 :: x10 :: x11 :: x12 :: x13 :: x14 :: zvi a :: L) st h = zev M n (x0 :: x1 :: x2 :: x3 :: x4 :: x5 :: x6 :: x7 :: x8 :: x9 :: x10 :: x11 :: x12 :: x13 :: x14 :: zvi a :: L) (zvi a :: st) h := ze_go hl rfl
theorem e_ld15R (hl : zlk M.1 pc = some (zi_ld 1 15 n)) : zev M pc (x0 :: x1 :: x2 :: x3 :: x4 :: x5 :: x6 :: x7 :: x8 :: x9 :: x10 :: x11 :: x12 :: x13 :: x14 :: zvr r :: L) st h = zev M n (x0 :: x1 :: x2 :: x3 :: x4 :: x5 :: x6 :: x7 :: x8 :: x9 :: x10 :: x11 :: x12 :: x13 :: x14 :: zvr r :: L) (zvr r :: st) h := ze_go hl rfl
theorem e_ld15J (hl : zlk M.1 pc = some (zi_ld 2 15 n)) : zev M pc (x0 :: x1 :: x2 :: x3 :: x4 :: x5 :: x6 :: x7 :: x8 :: x9 :: x10 :: x11 :: x12 :: x13 :: x14 :: zvl a :: L) st h = zev M n (x0 :: x1 :: x2 :: x3 :: x4 :: x5 :: x6 :: x7 :: x8 :: x9 :: x10 :: x11 :: x12 :: x13 :: x14 :: zvl a :: L) (zvl a :: st) h := ze_go hl rfl
theorem e_st15I (hl : zlk M.1 pc = some (zi_st 0 15 n)) (hx : zisL x14 = false) : zev M pc (x0 :: x1 :: x2 :: x3 :: x4 :: x5 :: x6 :: x7 :: x8 :: x9 :: x10 :: x11 :: x12 :: x13 :: x14 :: x15 :: L) (zvi a :: st) h = zev M n (x0 :: x1 :: x2 :: x3 :: x4 :: x5 :: x6 :: x7 :: x8 :: x9 :: x10 :: x11 :: x12 :: x13 :: x14 :: zvi a :: L) st h := ze_go hl ((zi_st_pos rfl (by simp only [List.length_cons]; omega)).trans (by have e1 : zclr (x0 :: x1 :: x2 :: x3 :: x4 :: x5 :: x6 :: x7 :: x8 :: x9 :: x10 :: x11 :: x12 :: x13 :: x14 :: x15 :: L) 15 = (bif zisL x14 then (x0 :: x1 :: x2 :: x3 :: x4 :: x5 :: x6 :: x7 :: x8 :: x9 :: x10 :: x11 :: x12 :: x13 :: x14 :: x15 :: L).set 14 zvu else (x0 :: x1 :: x2 :: x3 :: x4 :: x5 :: x6 :: x7 :: x8 :: x9 :: x10 :: x11 :: x12 :: x13 :: x14 :: x15 :: L)) := rfl; rw [e1, hx]; rfl))
theorem e_st15R (hl : zlk M.1 pc = some (zi_st 1 15 n)) (hx : zisL x14 = false) : zev M pc (x0 :: x1 :: x2 :: x3 :: x4 :: x5 :: x6 :: x7 :: x8 :: x9 :: x10 :: x11 :: x12 :: x13 :: x14 :: x15 :: L) (zvr r :: st) h = zev M n (x0 :: x1 :: x2 :: x3 :: x4 :: x5 :: x6 :: x7 :: x8 :: x9 :: x10 :: x11 :: x12 :: x13 :: x14 :: zvr r :: L) st h := ze_go hl ((zi_st_pos rfl (by simp only [List.length_cons]; omega)).trans (by have e1 : zclr (x0 :: x1 :: x2 :: x3 :: x4 :: x5 :: x6 :: x7 :: x8 :: x9 :: x10 :: x11 :: x12 :: x13 :: x14 :: x15 :: L) 15 = (bif zisL x14 then (x0 :: x1 :: x2 :: x3 :: x4 :: x5 :: x6 :: x7 :: x8 :: x9 :: x10 :: x11 :: x12 :: x13 :: x14 :: x15 :: L).set 14 zvu else (x0 :: x1 :: x2 :: x3 :: x4 :: x5 :: x6 :: x7 :: x8 :: x9 :: x10 :: x11 :: x12 :: x13 :: x14 :: x15 :: L)) := rfl; rw [e1, hx]; rfl))
theorem e_stJ15 (hl : zlk M.1 pc = some (zi_stL 15 n)) (hx : zisL x14 = false) : zev M pc (x0 :: x1 :: x2 :: x3 :: x4 :: x5 :: x6 :: x7 :: x8 :: x9 :: x10 :: x11 :: x12 :: x13 :: x14 :: x15 :: x16 :: L) (zvl a :: st) h = zev M n (x0 :: x1 :: x2 :: x3 :: x4 :: x5 :: x6 :: x7 :: x8 :: x9 :: x10 :: x11 :: x12 :: x13 :: x14 :: zvl a :: zvu :: L) st h := ze_go hl ((zi_stL_pos rfl (by simp only [List.length_cons]; omega)).trans (by have e1 : zclr (x0 :: x1 :: x2 :: x3 :: x4 :: x5 :: x6 :: x7 :: x8 :: x9 :: x10 :: x11 :: x12 :: x13 :: x14 :: x15 :: x16 :: L) 15 = (bif zisL x14 then (x0 :: x1 :: x2 :: x3 :: x4 :: x5 :: x6 :: x7 :: x8 :: x9 :: x10 :: x11 :: x12 :: x13 :: x14 :: x15 :: x16 :: L).set 14 zvu else (x0 :: x1 :: x2 :: x3 :: x4 :: x5 :: x6 :: x7 :: x8 :: x9 :: x10 :: x11 :: x12 :: x13 :: x14 :: x15 :: x16 :: L)) := rfl; rw [e1, hx]; rfl))
theorem e_iinc15 {d : Int} (hl : zlk M.1 pc = some (zi_iinc 15 d n)) (hx : zisL x14 = false) : zev M pc (x0 :: x1 :: x2 :: x3 :: x4 :: x5 :: x6 :: x7 :: x8 :: x9 :: x10 :: x11 :: x12 :: x13 :: x14 :: zvi a :: L) st h = zev M n (x0 :: x1 :: x2 :: x3 :: x4 :: x5 :: x6 :: x7 :: x8 :: x9 :: x10 :: x11 :: x12 :: x13 :: x14 :: zvi (w32 (a + d)) :: L) st h := ze_go hl (by simp [zi_iinc, zclr, hx, zgo, zvi])
theorem e_ld16I (hl : zlk M.1 pc = some (zi_ld 0 16 n)) : zev M pc (x0 :: x1 :: x2 :: x3 :: x4 :: x5 :: x6 :: x7 :: x8 :: x9 :: x10 :: x11 :: x12 :: x13 :: x14 :: x15 :: zvi a :: L) st h = zev M n (x0 :: x1 :: x2 :: x3 :: x4 :: x5 :: x6 :: x7 :: x8 :: x9 :: x10 :: x11 :: x12 :: x13 :: x14 :: x15 :: zvi a :: L) (zvi a :: st) h := ze_go hl rfl
theorem e_ld16R (hl : zlk M.1 pc = some (zi_ld 1 16 n)) : zev M pc (x0 :: x1 :: x2 :: x3 :: x4 :: x5 :: x6 :: x7 :: x8 :: x9 :: x10 :: x11 :: x12 :: x13 :: x14 :: x15 :: zvr r :: L) st h = zev M n (x0 :: x1 :: x2 :: x3 :: x4 :: x5 :: x6 :: x7 :: x8 :: x9 :: x10 :: x11 :: x12 :: x13 :: x14 :: x15 :: zvr r :: L) (zvr r :: st) h := ze_go hl rfl
theorem e_ld16J (hl : zlk M.1 pc = some (zi_ld 2 16 n)) : zev M pc (x0 :: x1 :: x2 :: x3 :: x4 :: x5 :: x6 :: x7 :: x8 :: x9 :: x10 :: x11 :: x12 :: x13 :: x14 :: x15 :: zvl a :: L) st h = zev M n (x0 :: x1 :: x2 :: x3 :: x4 :: x5 :: x6 :: x7 :: x8 :: x9 :: x10 :: x11 :: x12 :: x13 :: x14 :: x15 :: zvl a :: L) (zvl a :: st) h := ze_go hl rfl
theorem e_st16I (hl : zlk M.1 pc = some (zi_st 0 16 n)) (hx : zisL x15 = false) : zev M pc (x0 :: x1 :: x2 :: x3 :: x4 :: x5 :: x6 :: x7 :: x8 :: x9 :: x10 :: x11 :: x12 :: x13 :: x14 :: x15 :: x16 :: L) (zvi a :: st) h = zev M n (x0 :: x1 :: x2 :: x3 :: x4 :: x5 :: x6 :: x7 :: x8 :: x9 :: x10 :: x11 :: x12 :: x13 :: x14 :: x15 :: zvi a :: L) st h := ze_go hl ((zi_st_pos rfl (by simp only [List.length_cons]; omega)).trans (by have e1 : zclr (x0 :: x1 :: x2 :: x3 :: x4 :: x5 :: x6 :: x7 :: x8 :: x9 :: x10 :: x11 :: x12 :: x13 :: x14 :: x15 :: x16 :: L) 16 = (bif zisL x15 then (x0 :: x1 :: x2 :: x3 :: x4 :: x5 :: x6 :: x7 :: x8 :: x9 :: x10 :: x11 :: x12 :: x13 :: x14 :: x15 :: x16 :: L).set 15 zvu else (x0 :: x1 :: x2 :: x3 :: x4 :: x5 :: x6 :: x7 :: x8 :: x9 :: x10 :: x11 :: x12 :: x13 :: x14 :: x15 :: x16 :: L)) := rfl; rw [e1, hx]; rfl))
theorem e_st16R (hl : zlk M.1 pc = some (zi_st 1 16 n)) (hx : zisL x15 = false) : zev M pc (x0 :: x1 :: x2 :: x3 :: x4 :: x5 :: x6 :: x7 :: x8 :: x9 :: x10 :: x11 :: x12 :: x13 :: x14 :: x15 :: x16 :: L) (zvr r :: st) h = zev M n (x0 :: x1 :: x2 :: x3 :: x4 :: x5 :: x6 :: x7 :: x8 :: x9 :: x10 :: x11 :: x12 :: x13 :: x14 :: x15 :: zvr r :: L) st h := ze_go hl ((zi_st_pos rfl (by simp only [List.length_cons]; omega)).trans (by have e1 : zclr (x0 :: x1 :: x2 :: x3 :: x4 :: x5 :: x6 :: x7 :: x8 :: x9 :: x10 :: x11 :: x12 :: x13 :: x14 :: x15 :: x16 :: L) 16 = (bif zisL x15 then (x0 :: x1 :: x2 :: x3 :: x4 :: x5 :: x6 :: x7 :: x8 :: x9 :: x10 :: x11 :: x12 :: x13 :: x14 :: x15 :: x16 :: L).set 15 zvu else (x0 :: x1 :: x2 :: x3 :: x4 :: x5 :: x6 :: x7 :: x8 :: x9 :: x10 :: x11 :: x12 :: x13 :: x14 :: x15 :: x16 :: L)) := rfl; rw [e1, hx]; rfl))
theorem e_stJ16 (hl : zlk M.1 pc = some (zi_stL 16 n)) (hx : zisL x15 = false) : zev M pc (x0 :: x1 :: x2 :: x3 :: x4 :: x5 :: x6 :: x7 :: x8 :: x9 :: x10 :: x11 :: x12 :: x13 :: x14 :: x15 :: x16 :: x17 :: L) (zvl a :: st) h = zev M n (x0 :: x1 :: x2 :: x3 :: x4 :: x5 :: x6 :: x7 :: x8 :: x9 :: x10 :: x11 :: x12 :: x13 :: x14 :: x15 :: zvl a :: zvu :: L) st h := ze_go hl ((zi_stL_pos rfl (by simp only [List.length_cons]; omega)).trans (by have e1 : zclr (x0 :: x1 :: x2 :: x3 :: x4 :: x5 :: x6 :: x7 :: x8 :: x9 :: x10 :: x11 :: x12 :: x13 :: x14 :: x15 :: x16 :: x17 :: L) 16 = (bif zisL x15 then (x0 :: x1 :: x2 :: x3 :: x4 :: x5 :: x6 :: x7 :: x8 :: x9 :: x10 :: x11 :: x12 :: x13 :: x14 :: x15 :: x16 :: x17 :: L).set 15 zvu else (x0 :: x1 :: x2 :: x3 :: x4 :: x5 :: x6 :: x7 :: x8 :: x9 :: x10 :: x11 :: x12 :: x13 :: x14 :: x15 :: x16 :: x17 :: L)) := rfl; rw [e1, hx]; rfl))
theorem e_iinc16 {d : Int} (hl : zlk M.1 pc = some (zi_iinc 16 d n)) (hx : zisL x15 = false) : zev M pc (x0 :: x1 :: x2 :: x3 :: x4 :: x5 :: x6 :: x7 :: x8 :: x9 :: x10 :: x11 :: x12 :: x13 :: x14 :: x15 :: zvi a :: L) st h = zev M n (x0 :: x1 :: x2 :: x3 :: x4 :: x5 :: x6 :: x7 :: x8 :: x9 :: x10 :: x11 :: x12 :: x13 :: x14 :: x15 :: zvi (w32 (a + d)) :: L) st h := ze_go hl (by simp [zi_iinc, zclr, hx, zgo, zvi])
variable {f : Int → Int → Int} {g : Int → Int}
theorem e_bin (hl : zlk M.1 pc = some (zi_bin f n)) : zev M pc L (zvi b :: zvi a :: st) h = zev M n L (zvi (f a b) :: st) h := ze_go hl rfl
theorem e_un (hl : zlk M.1 pc = some (zi_un g n)) : zev M pc L (zvi a :: st) h = zev M n L (zvi (g a) :: st) h := ze_go hl rfl
theorem e_div (hl : zlk M.1 pc = some (zi_div n)) : zev M pc L (zvi b :: zvi a :: st) h = if b = 0 then none else zev M n L (zvi (w32 (Int.tdiv a b)) :: st) h := by
  by_cases hb : b = 0
  · rw [if_pos hb]; exact ze_none hl (by simp [zi_div, zvi, hb])
  · rw [if_neg hb]; exact ze_go hl (by simp [zi_div, zvi, hb, zgo])
theorem e_binL (hl : zlk M.1 pc = some (zi_binL f n)) : zev M pc L (zvl b :: zvl a :: st) h = zev M n L (zvl (f a b) :: st) h := ze_go hl rfl
theorem e_shL (hl : zlk M.1 pc = some (zi_shL f n)) : zev M pc L (zvi b :: zvl a :: st) h = zev M n L (zvl (f a b) :: st) h := ze_go hl rfl
theorem e_lcmp (hl : zlk M.1 pc = some (zi_lcmp n)) : zev M pc L (zvl b :: zvl a :: st) h = zev M n L (zvi (zlcmp a b) :: st) h := ze_go hl rfl
theorem e_i2l (hl : zlk M.1 pc = some (zi_i2l n)) : zev M pc L (zvi a :: st) h = zev M n L (zvl a :: st) h := ze_go hl rfl
theorem e_l2i (hl : zlk M.1 pc = some (zi_l2i n)) : zev M pc L (zvl a :: st) h = zev M n L (zvi (w32 a) :: st) h := ze_go hl rfl
theorem e_dupI (hl : zlk M.1 pc = some (zi_dup n)) : zev M pc L (zvi a :: st) h = zev M n L (zvi a :: zvi a :: st) h := ze_go hl rfl
theorem e_popI (hl : zlk M.1 pc = some (zi_pop n)) : zev M pc L (zvi a :: st) h = zev M n L st h := ze_go hl rfl
theorem e_dupR (hl : zlk M.1 pc = some (zi_dup n)) : zev M pc L (zvr r :: st) h = zev M n L (zvr r :: zvr r :: st) h := ze_go hl rfl
theorem e_popR (hl : zlk M.1 pc = some (zi_pop n)) : zev M pc L (zvr r :: st) h = zev M n L st h := ze_go hl rfl
theorem e_dupx1II (hl : zlk M.1 pc = some (zi_dupx1 n)) : zev M pc L (zvi a :: zvi b :: st) h = zev M n L (zvi a :: zvi b :: zvi a :: st) h := ze_go hl rfl
theorem e_dup2II (hl : zlk M.1 pc = some (zi_dup2 n)) : zev M pc L (zvi a :: zvi b :: st) h = zev M n L (zvi a :: zvi b :: zvi a :: zvi b :: st) h := ze_go hl rfl
theorem e_dupx1IR (hl : zlk M.1 pc = some (zi_dupx1 n)) : zev M pc L (zvi a :: zvr r2 :: st) h = zev M n L (zvi a :: zvr r2 :: zvi a :: st) h := ze_go hl rfl
theorem e_dup2IR (hl : zlk M.1 pc = some (zi_dup2 n)) : zev M pc L (zvi a :: zvr r2 :: st) h = zev M n L (zvi a :: zvr r2 :: zvi a :: zvr r2 :: st) h := ze_go hl rfl
theorem e_dupx1RI (hl : zlk M.1 pc = some (zi_dupx1 n)) : zev M pc L (zvr r :: zvi b :: st) h = zev M n L (zvr r :: zvi b :: zvr r :: st) h := ze_go hl rfl
theorem e_dup2RI (hl : zlk M.1 pc = some (zi_dup2 n)) : zev M pc L (zvr r :: zvi b :: st) h = zev M n L (zvr r :: zvi b :: zvr r :: zvi b :: st) h := ze_go hl rfl
theorem e_dupx1RR (hl : zlk M.1 pc = some (zi_dupx1 n)) : zev M pc L (zvr r :: zvr r2 :: st) h = zev M n L (zvr r :: zvr r2 :: zvr r :: st) h := ze_go hl rfl
theorem e_dup2RR (hl : zlk M.1 pc = some (zi_dup2 n)) : zev M pc L (zvr r :: zvr r2 :: st) h = zev M n L (zvr r :: zvr r2 :: zvr r :: zvr r2 :: st) h := ze_go hl rfl
theorem e_dup2L (hl : zlk M.1 pc = some (zi_dup2L n)) : zev M pc L (zvl a :: st) h = zev M n L (zvl a :: zvl a :: st) h := ze_go hl rfl
def zc_eq (a b : Int) : Bool := decide (a = b)
theorem e_ifeq (hl : zlk M.1 pc = some (zi_if (fun a => zc_eq a 0) t n)) : zev M pc L (zvi a :: st) h = if a = 0 then zev M t L st h else zev M n L st h := by
  by_cases hc : a = 0
  · rw [if_pos hc]; exact ze_go hl (by simp [zi_if, zvi, zgo, zc_eq, hc])
  · rw [if_neg hc]; exact ze_go hl (by simp [zi_if, zvi, zgo, zc_eq, hc])
theorem e_cmpeq (hl : zlk M.1 pc = some (zi_cmp zc_eq t n)) : zev M pc L (zvi b :: zvi a :: st) h = if a = b then zev M t L st h else zev M n L st h := by
  by_cases hc : a = b
  · rw [if_pos hc]; exact ze_go hl (by simp [zi_cmp, zvi, zgo, zc_eq, hc])
  · rw [if_neg hc]; exact ze_go hl (by simp [zi_cmp, zvi, zgo, zc_eq, hc])
def zc_ne (a b : Int) : Bool := decide (a ≠ b)
theorem e_ifne (hl : zlk M.1 pc = some (zi_if (fun a => zc_ne a 0) t n)) : zev M pc L (zvi a :: st) h = if a ≠ 0 then zev M t L st h else zev M n L st h := by
  by_cases hc : a ≠ 0
  · rw [if_pos hc]; exact ze_go hl (by simp [zi_if, zvi, zgo, zc_ne, hc])
  · rw [if_neg hc]; exact ze_go hl (by simp [zi_if, zvi, zgo, zc_ne, hc])
theorem e_cmpne (hl : zlk M.1 pc = some (zi_cmp zc_ne t n)) : zev M pc L (zvi b :: zvi a :: st) h = if a ≠ b then zev M t L st h else zev M n L st h := by
  by_cases hc : a ≠ b
  · rw [if_pos hc]; exact ze_go hl (by simp [zi_cmp, zvi, zgo, zc_ne, hc])
  · rw [if_neg hc]; exact ze_go hl (by simp [zi_cmp, zvi, zgo, zc_ne, hc])
def zc_lt (a b : Int) : Bool := decide (a < b)
theorem e_iflt (hl : zlk M.1 pc = some (zi_if (fun a => zc_lt a 0) t n)) : zev M pc L (zvi a :: st) h = if a < 0 then zev M t L st h else zev M n L st h := by
  by_cases hc : a < 0
  · rw [if_pos hc]; exact ze_go hl (by simp [zi_if, zvi, zgo, zc_lt, hc])
  · rw [if_neg hc]; exact ze_go hl (by simp [zi_if, zvi, zgo, zc_lt, hc])
theorem e_cmplt (hl : zlk M.1 pc = some (zi_cmp zc_lt t n)) : zev M pc L (zvi b :: zvi a :: st) h = if a < b then zev M t L st h else zev M n L st h := by
  by_cases hc : a < b
  · rw [if_pos hc]; exact ze_go hl (by simp [zi_cmp, zvi, zgo, zc_lt, hc])
  · rw [if_neg hc]; exact ze_go hl (by simp [zi_cmp, zvi, zgo, zc_lt, hc])
def zc_ge (a b : Int) : Bool := decide (a ≥ b)
theorem e_ifge (hl : zlk M.1 pc = some (zi_if (fun a => zc_ge a 0) t n)) : zev M pc L (zvi a :: st) h = if a ≥ 0 then zev M t L st h else zev M n L st h := by
  by_cases hc : a ≥ 0
  · rw [if_pos hc]; exact ze_go hl (by simp [zi_if, zvi, zgo, zc_ge, hc])
  · rw [if_neg hc]; exact ze_go hl (by simp [zi_if, zvi, zgo, zc_ge, hc])
theorem e_cmpge (hl : zlk M.1 pc = some (zi_cmp zc_ge t n)) : zev M pc L (zvi b :: zvi a :: st) h = if a ≥ b then zev M t L st h else zev M n L st h := by
  by_cases hc : a ≥ b
  · rw [if_pos hc]; exact ze_go hl (by simp [zi_cmp, zvi, zgo, zc_ge, hc])
  · rw [if_neg hc]; exact ze_go hl (by simp [zi_cmp, zvi, zgo, zc_ge, hc])
def zc_gt (a b : Int) : Bool := decide (a > b)
theorem e_ifgt (hl : zlk M.1 pc = some (zi_if (fun a => zc_gt a 0) t n)) : zev M pc L (zvi a :: st) h = if a > 0 then zev M t L st h else zev M n L st h := by
  by_cases hc : a > 0
  · rw [if_pos hc]; exact ze_go hl (by simp [zi_if, zvi, zgo, zc_gt, hc])
  · rw [if_neg hc]; exact ze_go hl (by simp [zi_if, zvi, zgo, zc_gt, hc])
theorem e_cmpgt (hl : zlk M.1 pc = some (zi_cmp zc_gt t n)) : zev M pc L (zvi b :: zvi a :: st) h = if a > b then zev M t L st h else zev M n L st h := by
  by_cases hc : a > b
  · rw [if_pos hc]; exact ze_go hl (by simp [zi_cmp, zvi, zgo, zc_gt, hc])
  · rw [if_neg hc]; exact ze_go hl (by simp [zi_cmp, zvi, zgo, zc_gt, hc])
def zc_le (a b : Int) : Bool := decide (a ≤ b)
theorem e_ifle (hl : zlk M.1 pc = some (zi_if (fun a => zc_le a 0) t n)) : zev M pc L (zvi a :: st) h = if a ≤ 0 then zev M t L st h else zev M n L st h := by
  by_cases hc : a ≤ 0
  · rw [if_pos hc]; exact ze_go hl (by simp [zi_if, zvi, zgo, zc_le, hc])
  · rw [if_neg hc]; exact ze_go hl (by simp [zi_if, zvi, zgo, zc_le, hc])
theorem e_cmple (hl : zlk M.1 pc = some (zi_cmp zc_le t n)) : zev M pc L (zvi b :: zvi a :: st) h = if a ≤ b then zev M t L st h else zev M n L st h := by
  by_cases hc : a ≤ b
  · rw [if_pos hc]; exact ze_go hl (by simp [zi_cmp, zvi, zgo, zc_le, hc])
  · rw [if_neg hc]; exact ze_go hl (by simp [zi_cmp, zvi, zgo, zc_le, hc])
theorem e_null0 (hl : zlk M.1 pc = some (zi_null t n)) : zev M pc L (zvr none :: st) h = zev M t L st h := ze_go hl rfl
theorem e_null1 (hl : zlk M.1 pc = some (zi_null t n)) : zev M pc L (zvr (some p) :: st) h = if (ph_K h p).1 ≠ 0 then zev M n L st h else none := by
  by_cases hc : (ph_K h p).1 ≠ 0
  · rw [if_pos hc]; exact ze_go hl (if_pos hc)
  · rw [if_neg hc]; exact ze_none hl (if_neg hc)
theorem e_nonnull0 (hl : zlk M.1 pc = some (zi_nonnull t n)) : zev M pc L (zvr none :: st) h = zev M n L st h := ze_go hl rfl
theorem e_nonnull1 (hl : zlk M.1 pc = some (zi_nonnull t n)) : zev M pc L (zvr (some p) :: st) h = if (ph_K h p).1 ≠ 0 then zev M t L st h else none := by
  by_cases hc : (ph_K h p).1 ≠ 0
  · rw [if_pos hc]; exact ze_go hl (if_pos hc)
  · rw [if_neg hc]; exact ze_none hl (if_neg hc)
theorem e_acmp (hl : zlk M.1 pc = some (zi_acmp t n)) : zev M pc L (zvr r2 :: zvr r :: st) h = if zcomp h r r2 = true then (if r = r2 then zev M t L st h else zev M n L st h) else none := by
  by_cases hc : zcomp h r r2 = true
  · rw [if_pos hc]
    by_cases hr : r = r2
    · rw [if_pos hr]; exact ze_go hl (by simp [zi_acmp, zvr, zgo, hc, hr] at *; simp [hc])
    · rw [if_neg hr]; exact ze_go hl (by simp [zi_acmp, zvr, zgo, hc, hr])
  · rw [if_neg hc]; exact ze_none hl (by simp [zi_acmp, zvr, hc])
theorem e_goto (hl : zlk M.1 pc = some (zi_goto t)) : zev M pc L st h = zev M t L st h := ze_go hl rfl
theorem e_sw {lo hi : Int} {ts : List Nat} {d : Nat} (hl : zlk M.1 pc = some (zi_sw lo hi ts d)) : zev M pc L (zvi a :: st) h = zev M (zswt lo hi ts d a) L st h := ze_go hl rfl
variable {kd sl na : Nat} {k : Int} {ok : Nat → Bool}
theorem e_getI (hl : zlk M.1 pc = some (zi_getI kd k n)) : zev M pc L (zvr (some p) :: st) h = if (ph_K h p).1 % 1000 = kd then zev M n L (zvi (ph_I h p k) :: st) h else none := by
  by_cases hc : (ph_K h p).1 % 1000 = kd
  · rw [if_pos hc]; exact ze_go hl (if_pos hc)
  · rw [if_neg hc]; exact ze_none hl (if_neg hc)
theorem e_getJ (hl : zlk M.1 pc = some (zi_getJ kd k n)) : zev M pc L (zvr (some p) :: st) h = if (ph_K h p).1 % 1000 = kd then zev M n L (zvl (ph_J h p k) :: st) h else none := by
  by_cases hc : (ph_K h p).1 % 1000 = kd
  · rw [if_pos hc]; exact ze_go hl (if_pos hc)
  · rw [if_neg hc]; exact ze_none hl (if_neg hc)
theorem e_getR (hl : zlk M.1 pc = some (zi_getR kd k n)) : zev M pc L (zvr (some p) :: st) h = if (ph_K h p).1 % 1000 = kd then zev M n L (zvr (ph_R h p k) :: st) h else none := by
  by_cases hc : (ph_K h p).1 % 1000 = kd
  · rw [if_pos hc]; exact ze_go hl (if_pos hc)
  · rw [if_neg hc]; exact ze_none hl (if_neg hc)
theorem e_putI (hl : zlk M.1 pc = some (zi_putI kd k n)) : zev M pc L (zvi x :: zvr (some p) :: st) h = if (ph_K h p).1 = kd then zev M n L st (st_I h p k x) else none := by
  by_cases hc : (ph_K h p).1 = kd
  · rw [if_pos hc]; exact ze_go hl (if_pos hc)
  · rw [if_neg hc]; exact ze_none hl (if_neg hc)
theorem e_putZ (hl : zlk M.1 pc = some (zi_putZ kd k n)) : zev M pc L (zvi x :: zvr (some p) :: st) h = if (ph_K h p).1 = kd ∧ (x = 0 ∨ x = 1) then zev M n L st (st_I h p k x) else none := by
  by_cases hc : (ph_K h p).1 = kd ∧ (x = 0 ∨ x = 1)
  · rw [if_pos hc]; exact ze_go hl (if_pos hc)
  · rw [if_neg hc]; exact ze_none hl (if_neg hc)
theorem e_putJ (hl : zlk M.1 pc = some (zi_putJ kd k n)) : zev M pc L (zvl x :: zvr (some p) :: st) h = if (ph_K h p).1 = kd then zev M n L st (st_J h p k x) else none := by
  by_cases hc : (ph_K h p).1 = kd
  · rw [if_pos hc]; exact ze_go hl (if_pos hc)
  · rw [if_neg hc]; exact ze_none hl (if_neg hc)
theorem e_putR (hl : zlk M.1 pc = some (zi_putR kd k n)) : zev M pc L (zvr r :: zvr (some p) :: st) h = if (ph_K h p).1 = kd then zev M n L st (st_R h p k r) else none := by
  by_cases hc : (ph_K h p).1 = kd
  · rw [if_pos hc]; exact ze_go hl (if_pos hc)
  · rw [if_neg hc]; exact ze_none hl (if_neg hc)
theorem e_new (hl : zlk M.1 pc = some (zi_new kd sl n)) : zev M pc L st h = zev M n L (zvr (some (ph_N h)) :: st) (al_ h kd 0 sl) := ze_go hl rfl
theorem e_newa (hl : zlk M.1 pc = some (zi_newa kd n)) : zev M pc L (zvi x :: st) h = if 0 ≤ x ∧ x ≤ 100000 then zev M n L (zvr (some (ph_N h)) :: st) (al_ h kd x.toNat x.toNat) else none := by
  by_cases hc : 0 ≤ x ∧ x ≤ 100000
  · rw [if_pos hc]; exact ze_go hl (if_pos hc)
  · rw [if_neg hc]; exact ze_none hl (if_neg hc)
theorem e_alen (hl : zlk M.1 pc = some (zi_alen n)) : zev M pc L (zvr (some p) :: st) h = if 1 ≤ (ph_K h p).1 % 1000 ∧ (ph_K h p).1 % 1000 ≤ 7 then zev M n L (zvi (ph_K h p).2 :: st) h else none := by
  by_cases hc : 1 ≤ (ph_K h p).1 % 1000 ∧ (ph_K h p).1 % 1000 ≤ 7
  · rw [if_pos hc]; exact ze_go hl (if_pos hc)
  · rw [if_neg hc]; exact ze_none hl (if_neg hc)
theorem e_ald (hl : zlk M.1 pc = some (zi_ald kd n)) : zev M pc L (zvi j :: zvr (some p) :: st) h = if (ph_K h p).1 % 1000 = kd ∧ 0 ≤ j ∧ j < (ph_K h p).2 then zev M n L (zvi (ph_I h p j) :: st) h else none := by
  by_cases hc : (ph_K h p).1 % 1000 = kd ∧ 0 ≤ j ∧ j < (ph_K h p).2
  · rw [if_pos hc]; exact ze_go hl (if_pos hc)
  · rw [if_neg hc]; exact ze_none hl (if_neg hc)
theorem e_aldJ (hl : zlk M.1 pc = some (zi_aldJ n)) : zev M pc L (zvi j :: zvr (some p) :: st) h = if (ph_K h p).1 % 1000 = 4 ∧ 0 ≤ j ∧ j < (ph_K h p).2 then zev M n L (zvl (ph_J h p j) :: st) h else none := by
  by_cases hc : (ph_K h p).1 % 1000 = 4 ∧ 0 ≤ j ∧ j < (ph_K h p).2
  · rw [if_pos hc]; exact ze_go hl (if_pos hc)
  · rw [if_neg hc]; exact ze_none hl (if_neg hc)
theorem e_aldR (hl : zlk M.1 pc = some (zi_aldR n)) : zev M pc L (zvi j :: zvr (some p) :: st) h = if 5 ≤ (ph_K h p).1 % 1000 ∧ (ph_K h p).1 % 1000 ≤ 7 ∧ 0 ≤ j ∧ j < (ph_K h p).2 then zev M n L (zvr (ph_R h p j) :: st) h else none := by
  by_cases hc : 5 ≤ (ph_K h p).1 % 1000 ∧ (ph_K h p).1 % 1000 ≤ 7 ∧ 0 ≤ j ∧ j < (ph_K h p).2
  · rw [if_pos hc]; exact ze_go hl (if_pos hc)
  · rw [if_neg hc]; exact ze_none hl (if_neg hc)
theorem e_ast (hl : zlk M.1 pc = some (zi_ast n)) : zev M pc L (zvi x :: zvi j :: zvr (some p) :: st) h = if (ph_K h p).1 = 1 ∧ 0 ≤ j ∧ j < (ph_K h p).2 then zev M n L st (st_I h p j x) else none := by
  by_cases hc : (ph_K h p).1 = 1 ∧ 0 ≤ j ∧ j < (ph_K h p).2
  · rw [if_pos hc]; exact ze_go hl (if_pos hc)
  · rw [if_neg hc]; exact ze_none hl (if_neg hc)
theorem e_astB (hl : zlk M.1 pc = some (zi_astB n)) : zev M pc L (zvi x :: zvi j :: zvr (some p) :: st) h = if (ph_K h p).1 = 2 ∧ 0 ≤ j ∧ j < (ph_K h p).2 then zev M n L st (st_I h p j (zi2b x)) else none := by
  by_cases hc : (ph_K h p).1 = 2 ∧ 0 ≤ j ∧ j < (ph_K h p).2
  · rw [if_pos hc]; exact ze_go hl (if_pos hc)
  · rw [if_neg hc]; exact ze_none hl (if_neg hc)
theorem e_astZ (hl : zlk M.1 pc = some (zi_astZ n)) : zev M pc L (zvi x :: zvi j :: zvr (some p) :: st) h = if (ph_K h p).1 = 3 ∧ 0 ≤ j ∧ j < (ph_K h p).2 ∧ (x = 0 ∨ x = 1) then zev M n L st (st_I h p j x) else none := by
  by_cases hc : (ph_K h p).1 = 3 ∧ 0 ≤ j ∧ j < (ph_K h p).2 ∧ (x = 0 ∨ x = 1)
  · rw [if_pos hc]; exact ze_go hl (if_pos hc)
  · rw [if_neg hc]; exact ze_none hl (if_neg hc)
theorem e_astJ (hl : zlk M.1 pc = some (zi_astJ n)) : zev M pc L (zvl x :: zvi j :: zvr (some p) :: st) h = if (ph_K h p).1 = 4 ∧ 0 ≤ j ∧ j < (ph_K h p).2 then zev M n L st (st_J h p j x) else none := by
  by_cases hc : (ph_K h p).1 = 4 ∧ 0 ≤ j ∧ j < (ph_K h p).2
  · rw [if_pos hc]; exact ze_go hl (if_pos hc)
  · rw [if_neg hc]; exact ze_none hl (if_neg hc)
theorem e_astR0 (hl : zlk M.1 pc = some (zi_astR kd ok n)) : zev M pc L (zvr none :: zvi j :: zvr (some p) :: st) h = if (ph_K h p).1 = kd ∧ 0 ≤ j ∧ j < (ph_K h p).2 then zev M n L st (st_R h p j none) else none := by
  by_cases hc : (ph_K h p).1 = kd ∧ 0 ≤ j ∧ j < (ph_K h p).2
  · rw [if_pos hc]; exact ze_go hl (if_pos ⟨hc.1, hc.2.1, hc.2.2, fun b hb => by cases hb⟩)
  · rw [if_neg hc]; exact ze_none hl (if_neg (fun hq => hc ⟨hq.1, hq.2.1, hq.2.2.1⟩))
theorem e_astR1 (hl : zlk M.1 pc = some (zi_astR kd ok n)) : zev M pc L (zvr (some q) :: zvi j :: zvr (some p) :: st) h = if (ph_K h p).1 = kd ∧ 0 ≤ j ∧ j < (ph_K h p).2 ∧ ok (ph_K h q).1 = true then zev M n L st (st_R h p j (some q)) else none := by
  by_cases hc : (ph_K h p).1 = kd ∧ 0 ≤ j ∧ j < (ph_K h p).2 ∧ ok (ph_K h q).1 = true
  · rw [if_pos hc]; exact ze_go hl (if_pos ⟨hc.1, hc.2.1, hc.2.2.1, fun b hb => by cases hb; exact hc.2.2.2⟩)
  · rw [if_neg hc]; exact ze_none hl (if_neg (fun hq => hc ⟨hq.1, hq.2.1, hq.2.2.1, hq.2.2.2 q rfl⟩))
theorem e_cast0 (hl : zlk M.1 pc = some (zi_cast ok n)) : zev M pc L (zvr none :: st) h = zev M n L (zvr none :: st) h := ze_go hl rfl
theorem e_cast1 (hl : zlk M.1 pc = some (zi_cast ok n)) : zev M pc L (zvr (some p) :: st) h = if ok (ph_K h p).1 = true then zev M n L (zvr (some p) :: st) h else none := by
  by_cases hc : ok (ph_K h p).1 = true
  · rw [if_pos hc]; exact ze_go hl (by simp [zi_cast, zvr, hc, zgo])
  · rw [if_neg hc]; exact ze_none hl (by simp [zi_cast, zvr, hc])
theorem e_ret (hl : zlk M.1 pc = some zi_ret) : zev M pc L [] h = zr0 h := ze_ret hl rfl
theorem e_retI (hl : zlk M.1 pc = some (zi_retv 0)) : zev M pc L [zvi a] h = zrv (zvi a) h := ze_ret hl rfl
theorem e_retJ (hl : zlk M.1 pc = some (zi_retv 2)) : zev M pc L [zvl a] h = zrv (zvl a) h := ze_ret hl rfl
theorem e_retR (hl : zlk M.1 pc = some (zi_retv 1)) : zev M pc L [zvr r] h = zrv (zvr r) h := ze_ret hl rfl
theorem e_retz (hl : zlk M.1 pc = some zi_retz) : zev M pc L [zvi a] h = if a = 0 ∨ a = 1 then zrv (zvi a) h else none := by
  by_cases hc : a = 0 ∨ a = 1
  · rw [if_pos hc]; exact ze_ret hl (if_pos hc)
  · rw [if_neg hc]; exact ze_none hl (if_neg hc)
theorem e_throw (hl : zlk M.1 pc = some zi_throw) : zev M pc L (zvr (some p) :: st) h = if (ph_K h p).1 ≠ 0 then zk M pc n L [] (zrx p h) else none := by
  by_cases hc : (ph_K h p).1 ≠ 0
  · rw [if_pos hc]
    have e : zi_throw L (zvr (some p) :: st) h = some (.inr (.inr p, h)) := if_pos hc
    cases ht : M.2 pc (ph_K h p).1 with
    | some t => rw [ze_thr hl e ht]; exact (zk_rx ht).symm
    | none => rw [ze_thr0 hl e ht]; exact (zk_rx0 ht).symm
  · rw [if_neg hc]; exact ze_none hl (if_neg hc)
/-- a call's end, whatever it is -/
theorem ze_after {i : ZI} {o : Option ZR} {st' : List ZV} (hl : zlk M.1 pc = some i) (e : i L st h = zafter n L st' o) : zev M pc L st h = zk M pc n L st' o := by
  match o, e with
  | none, e => exact ze_none hl e
  | some (.inl none, h'), e => exact ze_go hl e
  | some (.inl (some v), h'), e => exact ze_go hl e
  | some (.inr a, h'), e =>
    cases ht : M.2 pc (ph_K h' a).1 with
    | some t => rw [ze_thr hl e ht]; exact (zk_rx ht).symm
    | none => rw [ze_thr0 hl e ht]; exact (zk_rx0 ht).symm
variable {F : ZF}
theorem zcat_0 : zcat [] = 0 := rfl
theorem zcat_I : zcat (zvi a :: st) = 1 + zcat st := rfl
theorem zcat_R : zcat (zvr r :: st) = 1 + zcat st := rfl
theorem zcat_J : zcat (zvl a :: st) = 2 + zcat st := rfl
theorem e_callS0 (hl : zlk M.1 pc = some (zi_callS F 0 n)) : zev M pc L (st) h = if zcat st ≤ 8 then zk M pc n L st (F [] h) else none := by
  by_cases hc : zcat st ≤ 8
  · rw [if_pos hc]; exact ze_after hl (if_pos ⟨by first | exact Nat.zero_le _ | (simp only [List.length_cons]; omega), hc⟩)
  · rw [if_neg hc]; exact ze_none hl (if_neg (fun z => hc z.2))
theorem e_callS1 (hl : zlk M.1 pc = some (zi_callS F 1 n)) : zev M pc L (v0 :: st) h = if zcat st ≤ 8 then zk M pc n L st (F [v0] h) else none := by
  by_cases hc : zcat st ≤ 8
  · rw [if_pos hc]; exact ze_after hl (if_pos ⟨by first | exact Nat.zero_le _ | (simp only [List.length_cons]; omega), hc⟩)
  · rw [if_neg hc]; exact ze_none hl (if_neg (fun z => hc z.2))
theorem e_callS2 (hl : zlk M.1 pc = some (zi_callS F 2 n)) : zev M pc L (v1 :: v0 :: st) h = if zcat st ≤ 8 then zk M pc n L st (F [v0, v1] h) else none := by
  by_cases hc : zcat st ≤ 8
  · rw [if_pos hc]; exact ze_after hl (if_pos ⟨by first | exact Nat.zero_le _ | (simp only [List.length_cons]; omega), hc⟩)
  · rw [if_neg hc]; exact ze_none hl (if_neg (fun z => hc z.2))
theorem e_callS3 (hl : zlk M.1 pc = some (zi_callS F 3 n)) : zev M pc L (v2 :: v1 :: v0 :: st) h = if zcat st ≤ 8 then zk M pc n L st (F [v0, v1, v2] h) else none := by
  by_cases hc : zcat st ≤ 8
  · rw [if_pos hc]; exact ze_after hl (if_pos ⟨by first | exact Nat.zero_le _ | (simp only [List.length_cons]; omega), hc⟩)
  · rw [if_neg hc]; exact ze_none hl (if_neg (fun z => hc z.2))
theorem e_callS4 (hl : zlk M.1 pc = some (zi_callS F 4 n)) : zev M pc L (v3 :: v2 :: v1 :: v0 :: st) h = if zcat st ≤ 8 then zk M pc n L st (F [v0, v1, v2, v3] h) else none := by
  by_cases hc : zcat st ≤ 8
  · rw [if_pos hc]; exact ze_after hl (if_pos ⟨by first | exact Nat.zero_le _ | (simp only [List.length_cons]; omega), hc⟩)
  · rw [if_neg hc]; exact ze_none hl (if_neg (fun z => hc z.2))
theorem e_callS5 (hl : zlk M.1 pc = some (zi_callS F 5 n)) : zev M pc L (v4 :: v3 :: v2 :: v1 :: v0 :: st) h = if zcat st ≤ 8 then zk M pc n L st (F [v0, v1, v2, v3, v4] h) else none := by
  by_cases hc : zcat st ≤ 8
  · rw [if_pos hc]; exact ze_after hl (if_pos ⟨by first | exact Nat.zero_le _ | (simp only [List.length_cons]; omega), hc⟩)
  · rw [if_neg hc]; exact ze_none hl (if_neg (fun z => hc z.2))
theorem e_callS6 (hl : zlk M.1 pc = some (zi_callS F 6 n)) : zev M pc L (v5 :: v4 :: v3 :: v2 :: v1 :: v0 :: st) h = if zcat st ≤ 8 then zk M pc n L st (F [v0, v1, v2, v3, v4, v5] h) else none := by
  by_cases hc : zcat st ≤ 8
  · rw [if_pos hc]; exact ze_after hl (if_pos ⟨by first | exact Nat.zero_le _ | (simp only [List.length_cons]; omega), hc⟩)
  · rw [if_neg hc]; exact ze_none hl (if_neg (fun z => hc z.2))
theorem e_callS7 (hl : zlk M.1 pc = some (zi_callS F 7 n)) : zev M pc L (v6 :: v5 :: v4 :: v3 :: v2 :: v1 :: v0 :: st) h = if zcat st ≤ 8 then zk M pc n L st (F [v0, v1, v2, v3, v4, v5, v6] h) else none := by
  by_cases hc : zcat st ≤ 8
  · rw [if_pos hc]; exact ze_after hl (if_pos ⟨by first | exact Nat.zero_le _ | (simp only [List.length_cons]; omega), hc⟩)
  · rw [if_neg hc]; exact ze_none hl (if_neg (fun z => hc z.2))
theorem e_callV1 (hl : zlk M.1 pc = some (zi_callV F kd 1 n)) : zev M pc L (zvr (some p) :: st) h = if (ph_K h p).1 % 1000 = kd ∧ zcat st ≤ 8 then zk M pc n L st (F [zvr (some p)] h) else none := by
  by_cases hc : (ph_K h p).1 % 1000 = kd ∧ zcat st ≤ 8
  · rw [if_pos hc]; exact ze_after hl (if_pos ⟨hc.1, rfl, hc.2⟩)
  · rw [if_neg hc]; exact ze_none hl (if_neg (fun z => hc ⟨z.1, z.2.2⟩))
theorem e_callV2 (hl : zlk M.1 pc = some (zi_callV F kd 2 n)) : zev M pc L (v0 :: zvr (some p) :: st) h = if (ph_K h p).1 % 1000 = kd ∧ zcat st ≤ 8 then zk M pc n L st (F [zvr (some p), v0] h) else none := by
  by_cases hc : (ph_K h p).1 % 1000 = kd ∧ zcat st ≤ 8
  · rw [if_pos hc]; exact ze_after hl (if_pos ⟨hc.1, rfl, hc.2⟩)
  · rw [if_neg hc]; exact ze_none hl (if_neg (fun z => hc ⟨z.1, z.2.2⟩))
theorem e_callV3 (hl : zlk M.1 pc = some (zi_callV F kd 3 n)) : zev M pc L (v1 :: v0 :: zvr (some p) :: st) h = if (ph_K h p).1 % 1000 = kd ∧ zcat st ≤ 8 then zk M pc n L st (F [zvr (some p), v0, v1] h) else none := by
  by_cases hc : (ph_K h p).1 % 1000 = kd ∧ zcat st ≤ 8
  · rw [if_pos hc]; exact ze_after hl (if_pos ⟨hc.1, rfl, hc.2⟩)
  · rw [if_neg hc]; exact ze_none hl (if_neg (fun z => hc ⟨z.1, z.2.2⟩))
theorem e_callV4 (hl : zlk M.1 pc = some (zi_callV F kd 4 n)) : zev M pc L (v2 :: v1 :: v0 :: zvr (some p) :: st) h = if (ph_K h p).1 % 1000 = kd ∧ zcat st ≤ 8 then zk M pc n L st (F [zvr (some p), v0, v1, v2] h) else none := by
  by_cases hc : (ph_K h p).1 % 1000 = kd ∧ zcat st ≤ 8
  · rw [if_pos hc]; exact ze_after hl (if_pos ⟨hc.1, rfl, hc.2⟩)
  · rw [if_neg hc]; exact ze_none hl (if_neg (fun z => hc ⟨z.1, z.2.2⟩))
theorem e_callV5 (hl : zlk M.1 pc = some (zi_callV F kd 5 n)) : zev M pc L (v3 :: v2 :: v1 :: v0 :: zvr (some p) :: st) h = if (ph_K h p).1 % 1000 = kd ∧ zcat st ≤ 8 then zk M pc n L st (F [zvr (some p), v0, v1, v2, v3] h) else none := by
  by_cases hc : (ph_K h p).1 % 1000 = kd ∧ zcat st ≤ 8
  · rw [if_pos hc]; exact ze_after hl (if_pos ⟨hc.1, rfl, hc.2⟩)
  · rw [if_neg hc]; exact ze_none hl (if_neg (fun z => hc ⟨z.1, z.2.2⟩))
theorem e_callV6 (hl : zlk M.1 pc = some (zi_callV F kd 6 n)) : zev M pc L (v4 :: v3 :: v2 :: v1 :: v0 :: zvr (some p) :: st) h = if (ph_K h p).1 % 1000 = kd ∧ zcat st ≤ 8 then zk M pc n L st (F [zvr (some p), v0, v1, v2, v3, v4] h) else none := by
  by_cases hc : (ph_K h p).1 % 1000 = kd ∧ zcat st ≤ 8
  · rw [if_pos hc]; exact ze_after hl (if_pos ⟨hc.1, rfl, hc.2⟩)
  · rw [if_neg hc]; exact ze_none hl (if_neg (fun z => hc ⟨z.1, z.2.2⟩))
theorem e_callV7 (hl : zlk M.1 pc = some (zi_callV F kd 7 n)) : zev M pc L (v5 :: v4 :: v3 :: v2 :: v1 :: v0 :: zvr (some p) :: st) h = if (ph_K h p).1 % 1000 = kd ∧ zcat st ≤ 8 then zk M pc n L st (F [zvr (some p), v0, v1, v2, v3, v4, v5] h) else none := by
  by_cases hc : (ph_K h p).1 % 1000 = kd ∧ zcat st ≤ 8
  · rw [if_pos hc]; exact ze_after hl (if_pos ⟨hc.1, rfl, hc.2⟩)
  · rw [if_neg hc]; exact ze_none hl (if_neg (fun z => hc ⟨z.1, z.2.2⟩))
theorem e_callV8 (hl : zlk M.1 pc = some (zi_callV F kd 8 n)) : zev M pc L (v6 :: v5 :: v4 :: v3 :: v2 :: v1 :: v0 :: zvr (some p) :: st) h = if (ph_K h p).1 % 1000 = kd ∧ zcat st ≤ 8 then zk M pc n L st (F [zvr (some p), v0, v1, v2, v3, v4, v5, v6] h) else none := by
  by_cases hc : (ph_K h p).1 % 1000 = kd ∧ zcat st ≤ 8
  · rw [if_pos hc]; exact ze_after hl (if_pos ⟨hc.1, rfl, hc.2⟩)
  · rw [if_neg hc]; exact ze_none hl (if_neg (fun z => hc ⟨z.1, z.2.2⟩))
end
