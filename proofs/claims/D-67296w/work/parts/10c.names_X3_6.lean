set_option maxRecDepth 100000
theorem q1540 : (Jvm.Cond.instanceMethod ({ cls := "RoundCheckModel", name := "premise", desc := "(I)I" } : Jvm.MethodName)) ∈ lw_all := lw_g (lw_at lw_m6 178 rfl) rfl
theorem q1541 : (Jvm.Cond.selects "RoundCheckModel" ({ cls := "RoundCheckModel", name := "premise", desc := "(I)I" } : Jvm.MethodName) ({ cls := "RoundCheckModel", name := "premise", desc := "(I)I" } : Jvm.MethodName)) ∈ lw_all := lw_g (lw_at lw_m6 179 rfl) rfl
theorem q1542 : (Jvm.Cond.code ({ cls := "RoundCheckModel", name := "premise", desc := "(I)I" } : Jvm.MethodName) prog_4_method_112_code (3 : Nat) (Option.some Jvm.ClassFile.FieldType.int)) ∈ lw_all := lw_g (lw_at lw_m6 180 rfl) rfl
theorem q1544 : (Jvm.Cond.instanceMethod ({ cls := "RoundCheckModel", name := "clear", desc := "()I" } : Jvm.MethodName)) ∈ lw_all := lw_g (lw_at lw_m6 182 rfl) rfl
theorem q1545 : (Jvm.Cond.selects "RoundCheckModel" ({ cls := "RoundCheckModel", name := "clear", desc := "()I" } : Jvm.MethodName) ({ cls := "RoundCheckModel", name := "clear", desc := "()I" } : Jvm.MethodName)) ∈ lw_all := lw_g (lw_at lw_m6 183 rfl) rfl
theorem q1546 : (Jvm.Cond.code ({ cls := "RoundCheckModel", name := "clear", desc := "()I" } : Jvm.MethodName) prog_4_method_113_code (2 : Nat) (Option.some Jvm.ClassFile.FieldType.int)) ∈ lw_all := lw_g (lw_at lw_m6 184 rfl) rfl
theorem q1548 : (Jvm.Cond.instanceMethod ({ cls := "RoundCheckModel", name := "check", desc := "(I)I" } : Jvm.MethodName)) ∈ lw_all := lw_g (lw_at lw_m6 186 rfl) rfl
theorem q1549 : (Jvm.Cond.selects "RoundCheckModel" ({ cls := "RoundCheckModel", name := "check", desc := "(I)I" } : Jvm.MethodName) ({ cls := "RoundCheckModel", name := "check", desc := "(I)I" } : Jvm.MethodName)) ∈ lw_all := lw_g (lw_at lw_m6 187 rfl) rfl
theorem q1550 : (Jvm.Cond.code ({ cls := "RoundCheckModel", name := "check", desc := "(I)I" } : Jvm.MethodName) prog_4_method_114_code (3 : Nat) (Option.some Jvm.ClassFile.FieldType.int)) ∈ lw_all := lw_g (lw_at lw_m6 188 rfl) rfl
theorem q1551 : (Jvm.Cond.methodLink "RoundCheckModel" (569 : Nat) ({ cls := "RoundCheckModel", name := "checked", desc := "(I)I" } : Jvm.MethodName)) ∈ lw_all := lw_g (lw_at lw_m6 189 rfl) rfl
theorem q1552 : (Jvm.Cond.privateMethod ({ cls := "RoundCheckModel", name := "checked", desc := "(I)I" } : Jvm.MethodName)) ∈ lw_tbl := lw_at lw_m6 190 rfl
theorem q1553 : (Jvm.Cond.instanceMethod ({ cls := "RoundCheckModel", name := "checked", desc := "(I)I" } : Jvm.MethodName)) ∈ lw_all := lw_g (lw_at lw_m6 191 rfl) rfl
theorem q1554 : (Jvm.Cond.code ({ cls := "RoundCheckModel", name := "checked", desc := "(I)I" } : Jvm.MethodName) prog_4_method_50_code (16 : Nat) (Option.some Jvm.ClassFile.FieldType.int)) ∈ lw_all := lw_g (lw_at lw_m6 192 rfl) rfl
theorem q1555 : (Jvm.Cond.methodLink "RoundCheckModel" (255 : Nat) ({ cls := "RoundCheckModel", name := "q", desc := "(I)I" } : Jvm.MethodName)) ∈ lw_all := lw_g (lw_at lw_m6 193 rfl) rfl
theorem q1556 : (Jvm.Cond.privateMethod ({ cls := "RoundCheckModel", name := "q", desc := "(I)I" } : Jvm.MethodName)) ∈ lw_tbl := lw_at lw_m6 194 rfl
theorem q1557 : (Jvm.Cond.instanceMethod ({ cls := "RoundCheckModel", name := "q", desc := "(I)I" } : Jvm.MethodName)) ∈ lw_all := lw_g (lw_at lw_m6 195 rfl) rfl
theorem q1558 : (Jvm.Cond.code ({ cls := "RoundCheckModel", name := "q", desc := "(I)I" } : Jvm.MethodName) prog_4_method_45_code (4 : Nat) (Option.some Jvm.ClassFile.FieldType.int)) ∈ lw_all := lw_g (lw_at lw_m6 196 rfl) rfl
theorem q1559 : (Jvm.Cond.methodLink "RoundCheckModel" (261 : Nat) ({ cls := "RoundCheckModel", name := "tree", desc := "(I)I" } : Jvm.MethodName)) ∈ lw_all := lw_g (lw_at lw_m6 197 rfl) rfl
theorem q1560 : (Jvm.Cond.privateMethod ({ cls := "RoundCheckModel", name := "tree", desc := "(I)I" } : Jvm.MethodName)) ∈ lw_tbl := lw_at lw_m6 198 rfl
theorem q1561 : (Jvm.Cond.instanceMethod ({ cls := "RoundCheckModel", name := "tree", desc := "(I)I" } : Jvm.MethodName)) ∈ lw_all := lw_g (lw_at lw_m6 199 rfl) rfl
theorem q1562 : (Jvm.Cond.code ({ cls := "RoundCheckModel", name := "tree", desc := "(I)I" } : Jvm.MethodName) prog_4_method_46_code (7 : Nat) (Option.some Jvm.ClassFile.FieldType.int)) ∈ lw_all := lw_g (lw_at lw_m6 200 rfl) rfl
theorem q1563 : (Jvm.Cond.methodLink "RoundCheckModel" (258 : Nat) ({ cls := "RoundCheckModel", name := "counted", desc := "(I)I" } : Jvm.MethodName)) ∈ lw_all := lw_g (lw_at lw_m6 201 rfl) rfl
theorem q1564 : (Jvm.Cond.privateMethod ({ cls := "RoundCheckModel", name := "counted", desc := "(I)I" } : Jvm.MethodName)) ∈ lw_tbl := lw_at lw_m6 202 rfl
theorem q1565 : (Jvm.Cond.instanceMethod ({ cls := "RoundCheckModel", name := "counted", desc := "(I)I" } : Jvm.MethodName)) ∈ lw_all := lw_g (lw_at lw_m6 203 rfl) rfl
theorem q1566 : (Jvm.Cond.code ({ cls := "RoundCheckModel", name := "counted", desc := "(I)I" } : Jvm.MethodName) prog_4_method_48_code (6 : Nat) (Option.some Jvm.ClassFile.FieldType.int)) ∈ lw_all := lw_g (lw_at lw_m6 204 rfl) rfl
theorem q1567 : (Jvm.Cond.constantLong "RoundCheckModel" (270 : Nat) (1099511627776 : Int64)) ∈ lw_all := lw_g (lw_at lw_m6 205 rfl) rfl
theorem q1568 : (Jvm.Cond.methodLink "RoundCheckModel" (272 : Nat) ({ cls := "java/lang/Math", name := "min", desc := "(JJ)J" } : Jvm.MethodName)) ∈ lw_all := lw_g (lw_at lw_m6 206 rfl) rfl
theorem q1569 : (Jvm.Cond.methodLink "RoundCheckModel" (264 : Nat) ({ cls := "RoundCheckModel", name := "hang", desc := "(III)I" } : Jvm.MethodName)) ∈ lw_all := lw_g (lw_at lw_m6 207 rfl) rfl
theorem q1570 : (Jvm.Cond.privateMethod ({ cls := "RoundCheckModel", name := "hang", desc := "(III)I" } : Jvm.MethodName)) ∈ lw_tbl := lw_at lw_m6 208 rfl
theorem q1571 : (Jvm.Cond.instanceMethod ({ cls := "RoundCheckModel", name := "hang", desc := "(III)I" } : Jvm.MethodName)) ∈ lw_all := lw_g (lw_at lw_m6 209 rfl) rfl
theorem q1572 : (Jvm.Cond.code ({ cls := "RoundCheckModel", name := "hang", desc := "(III)I" } : Jvm.MethodName) prog_4_method_47_code (4 : Nat) (Option.some Jvm.ClassFile.FieldType.int)) ∈ lw_all := lw_g (lw_at lw_m6 210 rfl) rfl
theorem q1573 : (Jvm.Cond.methodLink "RoundCheckModel" (113 : Nat) ({ cls := "RoundCheckModel", name := "put", desc := "(III)I" } : Jvm.MethodName)) ∈ lw_all := lw_g (lw_at lw_m6 211 rfl) rfl
theorem q1574 : (Jvm.Cond.privateMethod ({ cls := "RoundCheckModel", name := "put", desc := "(III)I" } : Jvm.MethodName)) ∈ lw_tbl := lw_at lw_m6 212 rfl
theorem q1575 : (Jvm.Cond.instanceMethod ({ cls := "RoundCheckModel", name := "put", desc := "(III)I" } : Jvm.MethodName)) ∈ lw_all := lw_g (lw_at lw_m6 213 rfl) rfl
theorem q1576 : (Jvm.Cond.code ({ cls := "RoundCheckModel", name := "put", desc := "(III)I" } : Jvm.MethodName) prog_4_method_22_code (8 : Nat) (Option.some Jvm.ClassFile.FieldType.int)) ∈ lw_all := lw_g (lw_at lw_m6 214 rfl) rfl
theorem q1577 : (Jvm.Cond.methodLink "RoundCheckModel" (103 : Nat) ({ cls := "RoundCheckModel", name := "lift", desc := "(II)I" } : Jvm.MethodName)) ∈ lw_all := lw_g (lw_at lw_m6 215 rfl) rfl
theorem q1578 : (Jvm.Cond.privateMethod ({ cls := "RoundCheckModel", name := "lift", desc := "(II)I" } : Jvm.MethodName)) ∈ lw_tbl := lw_at lw_m6 216 rfl
theorem q1579 : (Jvm.Cond.instanceMethod ({ cls := "RoundCheckModel", name := "lift", desc := "(II)I" } : Jvm.MethodName)) ∈ lw_all := lw_g (lw_at lw_m6 217 rfl) rfl
theorem q1580 : (Jvm.Cond.code ({ cls := "RoundCheckModel", name := "lift", desc := "(II)I" } : Jvm.MethodName) prog_4_method_24_code (3 : Nat) (Option.some Jvm.ClassFile.FieldType.int)) ∈ lw_all := lw_g (lw_at lw_m6 218 rfl) rfl
theorem q1581 : (Jvm.Cond.methodLink "RoundCheckModel" (119 : Nat) ({ cls := "RoundCheckModel", name := "lift", desc := "(III)I" } : Jvm.MethodName)) ∈ lw_all := lw_g (lw_at lw_m6 219 rfl) rfl
theorem q1582 : (Jvm.Cond.privateMethod ({ cls := "RoundCheckModel", name := "lift", desc := "(III)I" } : Jvm.MethodName)) ∈ lw_tbl := lw_at lw_m6 220 rfl
theorem q1583 : (Jvm.Cond.instanceMethod ({ cls := "RoundCheckModel", name := "lift", desc := "(III)I" } : Jvm.MethodName)) ∈ lw_all := lw_g (lw_at lw_m6 221 rfl) rfl
theorem q1584 : (Jvm.Cond.code ({ cls := "RoundCheckModel", name := "lift", desc := "(III)I" } : Jvm.MethodName) prog_4_method_25_code (6 : Nat) (Option.some Jvm.ClassFile.FieldType.int)) ∈ lw_all := lw_g (lw_at lw_m6 222 rfl) rfl
theorem q1585 : (Jvm.Cond.constantLong "RoundCheckModel" (289 : Nat) (1000 : Int64)) ∈ lw_all := lw_g (lw_at lw_m6 223 rfl) rfl
theorem q1586 : (Jvm.Cond.constantLong "RoundCheckModel" (294 : Nat) (40 : Int64)) ∈ lw_all := lw_g (lw_at lw_m6 224 rfl) rfl
theorem q1587 : (Jvm.Cond.methodLink "RoundCheckModel" (296 : Nat) ({ cls := "RoundCheckModel", name := "caseOf", desc := "(IJ)I" } : Jvm.MethodName)) ∈ lw_all := lw_g (lw_at lw_m6 225 rfl) rfl
theorem q1588 : (Jvm.Cond.privateMethod ({ cls := "RoundCheckModel", name := "caseOf", desc := "(IJ)I" } : Jvm.MethodName)) ∈ lw_tbl := lw_at lw_m6 226 rfl
theorem q1589 : (Jvm.Cond.instanceMethod ({ cls := "RoundCheckModel", name := "caseOf", desc := "(IJ)I" } : Jvm.MethodName)) ∈ lw_all := lw_g (lw_at lw_m6 227 rfl) rfl
theorem q1590 : (Jvm.Cond.code ({ cls := "RoundCheckModel", name := "caseOf", desc := "(IJ)I" } : Jvm.MethodName) prog_4_method_73_code (8 : Nat) (Option.some Jvm.ClassFile.FieldType.int)) ∈ lw_all := lw_g (lw_at lw_m6 228 rfl) rfl
theorem q1591 : (Jvm.Cond.methodLink "RoundCheckModel" (279 : Nat) ({ cls := "RoundCheckModel", name := "leavesOf", desc := "(IJ)V" } : Jvm.MethodName)) ∈ lw_all := lw_g (lw_at lw_m6 229 rfl) rfl
theorem q1592 : (Jvm.Cond.privateMethod ({ cls := "RoundCheckModel", name := "leavesOf", desc := "(IJ)V" } : Jvm.MethodName)) ∈ lw_tbl := lw_at lw_m6 230 rfl
theorem q1593 : (Jvm.Cond.instanceMethod ({ cls := "RoundCheckModel", name := "leavesOf", desc := "(IJ)V" } : Jvm.MethodName)) ∈ lw_all := lw_g (lw_at lw_m6 231 rfl) rfl
theorem q1594 : (Jvm.Cond.code ({ cls := "RoundCheckModel", name := "leavesOf", desc := "(IJ)V" } : Jvm.MethodName) prog_4_method_49_code (5 : Nat) (Option.none : Option Jvm.ClassFile.FieldType)) ∈ lw_all := lw_g (lw_at lw_m6 232 rfl) rfl
theorem q1595 : (Jvm.Cond.methodLink "RoundCheckModel" (276 : Nat) ({ cls := "RoundCheckModel", name := "knows", desc := "(I)V" } : Jvm.MethodName)) ∈ lw_all := lw_g (lw_at lw_m6 233 rfl) rfl
theorem q1596 : (Jvm.Cond.privateMethod ({ cls := "RoundCheckModel", name := "knows", desc := "(I)V" } : Jvm.MethodName)) ∈ lw_tbl := lw_at lw_m6 234 rfl
theorem q1597 : (Jvm.Cond.instanceMethod ({ cls := "RoundCheckModel", name := "knows", desc := "(I)V" } : Jvm.MethodName)) ∈ lw_all := lw_g (lw_at lw_m6 235 rfl) rfl
theorem q1598 : (Jvm.Cond.code ({ cls := "RoundCheckModel", name := "knows", desc := "(I)V" } : Jvm.MethodName) prog_4_method_51_code (2 : Nat) (Option.none : Option Jvm.ClassFile.FieldType)) ∈ lw_all := lw_g (lw_at lw_m6 236 rfl) rfl
theorem q1599 : (Jvm.Cond.methodLink "RoundCheckModel" (341 : Nat) ({ cls := "RoundCheckModel", name := "terms", desc := "(I)V" } : Jvm.MethodName)) ∈ lw_all := lw_g (lw_at lw_m6 237 rfl) rfl
theorem q1600 : (Jvm.Cond.privateMethod ({ cls := "RoundCheckModel", name := "terms", desc := "(I)V" } : Jvm.MethodName)) ∈ lw_tbl := lw_at lw_m6 238 rfl
theorem q1601 : (Jvm.Cond.instanceMethod ({ cls := "RoundCheckModel", name := "terms", desc := "(I)V" } : Jvm.MethodName)) ∈ lw_all := lw_g (lw_at lw_m6 239 rfl) rfl
theorem q1602 : (Jvm.Cond.code ({ cls := "RoundCheckModel", name := "terms", desc := "(I)V" } : Jvm.MethodName) prog_4_method_57_code (4 : Nat) (Option.none : Option Jvm.ClassFile.FieldType)) ∈ lw_all := lw_g (lw_at lw_m7 0 rfl) rfl
theorem q1603 : (Jvm.Cond.methodLink "RoundCheckModel" (335 : Nat) ({ cls := "RoundCheckModel", name := "isTerm", desc := "(I)Z" } : Jvm.MethodName)) ∈ lw_all := lw_g (lw_at lw_m7 1 rfl) rfl
theorem q1604 : (Jvm.Cond.static ({ cls := "RoundCheckModel", name := "isTerm", desc := "(I)Z" } : Jvm.MethodName)) ∈ lw_all := lw_g (lw_at lw_m7 2 rfl) rfl
theorem q1605 : (Jvm.Cond.code ({ cls := "RoundCheckModel", name := "isTerm", desc := "(I)Z" } : Jvm.MethodName) prog_4_method_56_code (1 : Nat) (Option.some Jvm.ClassFile.FieldType.boolean)) ∈ lw_all := lw_g (lw_at lw_m7 3 rfl) rfl
theorem q1606 : (Jvm.Cond.methodLink "RoundCheckModel" (325 : Nat) ({ cls := "RoundCheckModel", name := "indexOf", desc := "(I)I" } : Jvm.MethodName)) ∈ lw_all := lw_g (lw_at lw_m7 4 rfl) rfl
theorem q1607 : (Jvm.Cond.privateMethod ({ cls := "RoundCheckModel", name := "indexOf", desc := "(I)I" } : Jvm.MethodName)) ∈ lw_tbl := lw_at lw_m7 5 rfl
theorem q1608 : (Jvm.Cond.instanceMethod ({ cls := "RoundCheckModel", name := "indexOf", desc := "(I)I" } : Jvm.MethodName)) ∈ lw_all := lw_g (lw_at lw_m7 6 rfl) rfl
theorem q1609 : (Jvm.Cond.code ({ cls := "RoundCheckModel", name := "indexOf", desc := "(I)I" } : Jvm.MethodName) prog_4_method_52_code (2 : Nat) (Option.some Jvm.ClassFile.FieldType.int)) ∈ lw_all := lw_g (lw_at lw_m7 7 rfl) rfl
theorem q1610 : (Jvm.Cond.methodLink "RoundCheckModel" (426 : Nat) ({ cls := "RoundCheckModel", name := "closing", desc := "()V" } : Jvm.MethodName)) ∈ lw_all := lw_g (lw_at lw_m7 8 rfl) rfl
theorem q1611 : (Jvm.Cond.privateMethod ({ cls := "RoundCheckModel", name := "closing", desc := "()V" } : Jvm.MethodName)) ∈ lw_tbl := lw_at lw_m7 9 rfl
theorem q1612 : (Jvm.Cond.instanceMethod ({ cls := "RoundCheckModel", name := "closing", desc := "()V" } : Jvm.MethodName)) ∈ lw_all := lw_g (lw_at lw_m7 10 rfl) rfl
theorem q1613 : (Jvm.Cond.code ({ cls := "RoundCheckModel", name := "closing", desc := "()V" } : Jvm.MethodName) prog_4_method_67_code (4 : Nat) (Option.none : Option Jvm.ClassFile.FieldType)) ∈ lw_all := lw_g (lw_at lw_m7 11 rfl) rfl
theorem q1614 : (Jvm.Cond.methodLink "RoundCheckModel" (398 : Nat) ({ cls := "RoundCheckModel", name := "takeIn", desc := "()V" } : Jvm.MethodName)) ∈ lw_all := lw_g (lw_at lw_m7 12 rfl) rfl
theorem q1615 : (Jvm.Cond.privateMethod ({ cls := "RoundCheckModel", name := "takeIn", desc := "()V" } : Jvm.MethodName)) ∈ lw_tbl := lw_at lw_m7 13 rfl
theorem q1616 : (Jvm.Cond.instanceMethod ({ cls := "RoundCheckModel", name := "takeIn", desc := "()V" } : Jvm.MethodName)) ∈ lw_all := lw_g (lw_at lw_m7 14 rfl) rfl
theorem q1617 : (Jvm.Cond.code ({ cls := "RoundCheckModel", name := "takeIn", desc := "()V" } : Jvm.MethodName) prog_4_method_63_code (4 : Nat) (Option.none : Option Jvm.ClassFile.FieldType)) ∈ lw_all := lw_g (lw_at lw_m7 15 rfl) rfl
theorem q1618 : (Jvm.Cond.methodLink "RoundCheckModel" (382 : Nat) ({ cls := "RoundCheckModel", name := "join", desc := "(II)V" } : Jvm.MethodName)) ∈ lw_all := lw_g (lw_at lw_m7 16 rfl) rfl
theorem q1619 : (Jvm.Cond.privateMethod ({ cls := "RoundCheckModel", name := "join", desc := "(II)V" } : Jvm.MethodName)) ∈ lw_tbl := lw_at lw_m7 17 rfl
theorem q1620 : (Jvm.Cond.instanceMethod ({ cls := "RoundCheckModel", name := "join", desc := "(II)V" } : Jvm.MethodName)) ∈ lw_all := lw_g (lw_at lw_m7 18 rfl) rfl
theorem q1621 : (Jvm.Cond.code ({ cls := "RoundCheckModel", name := "join", desc := "(II)V" } : Jvm.MethodName) prog_4_method_55_code (5 : Nat) (Option.none : Option Jvm.ClassFile.FieldType)) ∈ lw_all := lw_g (lw_at lw_m7 19 rfl) rfl
theorem q1622 : (Jvm.Cond.methodLink "RoundCheckModel" (328 : Nat) ({ cls := "RoundCheckModel", name := "top", desc := "(I)I" } : Jvm.MethodName)) ∈ lw_all := lw_g (lw_at lw_m7 20 rfl) rfl
theorem q1623 : (Jvm.Cond.privateMethod ({ cls := "RoundCheckModel", name := "top", desc := "(I)I" } : Jvm.MethodName)) ∈ lw_tbl := lw_at lw_m7 21 rfl
theorem q1624 : (Jvm.Cond.instanceMethod ({ cls := "RoundCheckModel", name := "top", desc := "(I)I" } : Jvm.MethodName)) ∈ lw_all := lw_g (lw_at lw_m7 22 rfl) rfl
theorem q1625 : (Jvm.Cond.code ({ cls := "RoundCheckModel", name := "top", desc := "(I)I" } : Jvm.MethodName) prog_4_method_53_code (2 : Nat) (Option.some Jvm.ClassFile.FieldType.int)) ∈ lw_all := lw_g (lw_at lw_m7 23 rfl) rfl
theorem q1626 : (Jvm.Cond.methodLink "RoundCheckModel" (385 : Nat) ({ cls := "RoundCheckModel", name := "adj", desc := "(II)V" } : Jvm.MethodName)) ∈ lw_all := lw_g (lw_at lw_m7 24 rfl) rfl
theorem q1627 : (Jvm.Cond.privateMethod ({ cls := "RoundCheckModel", name := "adj", desc := "(II)V" } : Jvm.MethodName)) ∈ lw_tbl := lw_at lw_m7 25 rfl
theorem q1628 : (Jvm.Cond.instanceMethod ({ cls := "RoundCheckModel", name := "adj", desc := "(II)V" } : Jvm.MethodName)) ∈ lw_all := lw_g (lw_at lw_m7 26 rfl) rfl
theorem q1629 : (Jvm.Cond.code ({ cls := "RoundCheckModel", name := "adj", desc := "(II)V" } : Jvm.MethodName) prog_4_method_61_code (3 : Nat) (Option.none : Option Jvm.ClassFile.FieldType)) ∈ lw_all := lw_g (lw_at lw_m7 27 rfl) rfl
theorem q1630 : (Jvm.Cond.methodLink "RoundCheckModel" (373 : Nat) ({ cls := "RoundCheckModel", name := "hasAdj", desc := "(II)Z" } : Jvm.MethodName)) ∈ lw_all := lw_g (lw_at lw_m7 28 rfl) rfl
theorem q1631 : (Jvm.Cond.privateMethod ({ cls := "RoundCheckModel", name := "hasAdj", desc := "(II)Z" } : Jvm.MethodName)) ∈ lw_tbl := lw_at lw_m7 29 rfl
theorem q1632 : (Jvm.Cond.instanceMethod ({ cls := "RoundCheckModel", name := "hasAdj", desc := "(II)Z" } : Jvm.MethodName)) ∈ lw_all := lw_g (lw_at lw_m7 30 rfl) rfl
theorem q1633 : (Jvm.Cond.code ({ cls := "RoundCheckModel", name := "hasAdj", desc := "(II)Z" } : Jvm.MethodName) prog_4_method_59_code (4 : Nat) (Option.some Jvm.ClassFile.FieldType.boolean)) ∈ lw_all := lw_g (lw_at lw_m7 31 rfl) rfl
theorem q1634 : (Jvm.Cond.methodLink "RoundCheckModel" (391 : Nat) ({ cls := "RoundCheckModel", name := "hasType", desc := "(II)V" } : Jvm.MethodName)) ∈ lw_all := lw_g (lw_at lw_m7 32 rfl) rfl
theorem q1635 : (Jvm.Cond.privateMethod ({ cls := "RoundCheckModel", name := "hasType", desc := "(II)V" } : Jvm.MethodName)) ∈ lw_tbl := lw_at lw_m7 33 rfl
theorem q1636 : (Jvm.Cond.instanceMethod ({ cls := "RoundCheckModel", name := "hasType", desc := "(II)V" } : Jvm.MethodName)) ∈ lw_all := lw_g (lw_at lw_m7 34 rfl) rfl
theorem q1637 : (Jvm.Cond.code ({ cls := "RoundCheckModel", name := "hasType", desc := "(II)V" } : Jvm.MethodName) prog_4_method_64_code (5 : Nat) (Option.none : Option Jvm.ClassFile.FieldType)) ∈ lw_all := lw_g (lw_at lw_m7 35 rfl) rfl
theorem q1638 : (Jvm.Cond.methodLink "RoundCheckModel" (394 : Nat) ({ cls := "RoundCheckModel", name := "mode", desc := "(III)V" } : Jvm.MethodName)) ∈ lw_all := lw_g (lw_at lw_m7 36 rfl) rfl
theorem q1639 : (Jvm.Cond.privateMethod ({ cls := "RoundCheckModel", name := "mode", desc := "(III)V" } : Jvm.MethodName)) ∈ lw_tbl := lw_at lw_m7 37 rfl
theorem q1640 : (Jvm.Cond.instanceMethod ({ cls := "RoundCheckModel", name := "mode", desc := "(III)V" } : Jvm.MethodName)) ∈ lw_all := lw_g (lw_at lw_m7 38 rfl) rfl
theorem q1641 : (Jvm.Cond.code ({ cls := "RoundCheckModel", name := "mode", desc := "(III)V" } : Jvm.MethodName) prog_4_method_60_code (4 : Nat) (Option.none : Option Jvm.ClassFile.FieldType)) ∈ lw_all := lw_g (lw_at lw_m7 39 rfl) rfl
theorem q1642 : (Jvm.Cond.methodLink "RoundCheckModel" (370 : Nat) ({ cls := "RoundCheckModel", name := "hasHere", desc := "(III)Z" } : Jvm.MethodName)) ∈ lw_all := lw_g (lw_at lw_m7 40 rfl) rfl
theorem q1643 : (Jvm.Cond.privateMethod ({ cls := "RoundCheckModel", name := "hasHere", desc := "(III)Z" } : Jvm.MethodName)) ∈ lw_tbl := lw_at lw_m7 41 rfl
theorem q1644 : (Jvm.Cond.instanceMethod ({ cls := "RoundCheckModel", name := "hasHere", desc := "(III)Z" } : Jvm.MethodName)) ∈ lw_all := lw_g (lw_at lw_m7 42 rfl) rfl
theorem q1645 : (Jvm.Cond.code ({ cls := "RoundCheckModel", name := "hasHere", desc := "(III)Z" } : Jvm.MethodName) prog_4_method_58_code (5 : Nat) (Option.some Jvm.ClassFile.FieldType.boolean)) ∈ lw_all := lw_g (lw_at lw_m7 43 rfl) rfl
theorem q1646 : (Jvm.Cond.methodLink "RoundCheckModel" (358 : Nat) ({ cls := "RoundCheckModel", name := "equal", desc := "(II)Z" } : Jvm.MethodName)) ∈ lw_all := lw_g (lw_at lw_m7 44 rfl) rfl
theorem q1647 : (Jvm.Cond.privateMethod ({ cls := "RoundCheckModel", name := "equal", desc := "(II)Z" } : Jvm.MethodName)) ∈ lw_tbl := lw_at lw_m7 45 rfl
theorem q1648 : (Jvm.Cond.instanceMethod ({ cls := "RoundCheckModel", name := "equal", desc := "(II)Z" } : Jvm.MethodName)) ∈ lw_all := lw_g (lw_at lw_m7 46 rfl) rfl
theorem q1649 : (Jvm.Cond.code ({ cls := "RoundCheckModel", name := "equal", desc := "(II)Z" } : Jvm.MethodName) prog_4_method_54_code (5 : Nat) (Option.some Jvm.ClassFile.FieldType.boolean)) ∈ lw_all := lw_g (lw_at lw_m7 47 rfl) rfl
theorem q1650 : (Jvm.Cond.methodLink "RoundCheckModel" (162 : Nat) ({ cls := "RoundCheckModel", name := "parent", desc := "(I)I" } : Jvm.MethodName)) ∈ lw_all := lw_g (lw_at lw_m7 48 rfl) rfl
theorem q1651 : (Jvm.Cond.privateMethod ({ cls := "RoundCheckModel", name := "parent", desc := "(I)I" } : Jvm.MethodName)) ∈ lw_tbl := lw_at lw_m7 49 rfl
theorem q1652 : (Jvm.Cond.instanceMethod ({ cls := "RoundCheckModel", name := "parent", desc := "(I)I" } : Jvm.MethodName)) ∈ lw_all := lw_g (lw_at lw_m7 50 rfl) rfl
theorem q1653 : (Jvm.Cond.code ({ cls := "RoundCheckModel", name := "parent", desc := "(I)I" } : Jvm.MethodName) prog_4_method_33_code (3 : Nat) (Option.some Jvm.ClassFile.FieldType.int)) ∈ lw_all := lw_g (lw_at lw_m7 51 rfl) rfl
theorem q1654 : (Jvm.Cond.methodLink "RoundCheckModel" (154 : Nat) ({ cls := "RoundCheckModel", name := "move", desc := "(I)I" } : Jvm.MethodName)) ∈ lw_all := lw_g (lw_at lw_m7 52 rfl) rfl
theorem q1655 : (Jvm.Cond.privateMethod ({ cls := "RoundCheckModel", name := "move", desc := "(I)I" } : Jvm.MethodName)) ∈ lw_tbl := lw_at lw_m7 53 rfl
theorem q1656 : (Jvm.Cond.instanceMethod ({ cls := "RoundCheckModel", name := "move", desc := "(I)I" } : Jvm.MethodName)) ∈ lw_all := lw_g (lw_at lw_m7 54 rfl) rfl
theorem q1657 : (Jvm.Cond.code ({ cls := "RoundCheckModel", name := "move", desc := "(I)I" } : Jvm.MethodName) prog_4_method_27_code (2 : Nat) (Option.some Jvm.ClassFile.FieldType.int)) ∈ lw_all := lw_g (lw_at lw_m7 55 rfl) rfl
theorem q1658 : (Jvm.Cond.methodLink "RoundCheckModel" (127 : Nat) ({ cls := "RoundCheckModel", name := "move", desc := "(II)I" } : Jvm.MethodName)) ∈ lw_all := lw_g (lw_at lw_m7 56 rfl) rfl
theorem q1659 : (Jvm.Cond.privateMethod ({ cls := "RoundCheckModel", name := "move", desc := "(II)I" } : Jvm.MethodName)) ∈ lw_tbl := lw_at lw_m7 57 rfl
theorem q1660 : (Jvm.Cond.instanceMethod ({ cls := "RoundCheckModel", name := "move", desc := "(II)I" } : Jvm.MethodName)) ∈ lw_all := lw_g (lw_at lw_m7 58 rfl) rfl
theorem q1661 : (Jvm.Cond.code ({ cls := "RoundCheckModel", name := "move", desc := "(II)I" } : Jvm.MethodName) prog_4_method_28_code (6 : Nat) (Option.some Jvm.ClassFile.FieldType.int)) ∈ lw_all := lw_g (lw_at lw_m7 59 rfl) rfl
theorem q1662 : (Jvm.Cond.methodLink "RoundCheckModel" (190 : Nat) ({ cls := "RoundCheckModel", name := "typeOf", desc := "(I)I" } : Jvm.MethodName)) ∈ lw_all := lw_g (lw_at lw_m7 60 rfl) rfl
theorem q1663 : (Jvm.Cond.privateMethod ({ cls := "RoundCheckModel", name := "typeOf", desc := "(I)I" } : Jvm.MethodName)) ∈ lw_tbl := lw_at lw_m7 61 rfl
theorem q1664 : (Jvm.Cond.instanceMethod ({ cls := "RoundCheckModel", name := "typeOf", desc := "(I)I" } : Jvm.MethodName)) ∈ lw_all := lw_g (lw_at lw_m7 62 rfl) rfl
theorem q1665 : (Jvm.Cond.code ({ cls := "RoundCheckModel", name := "typeOf", desc := "(I)I" } : Jvm.MethodName) prog_4_method_32_code (2 : Nat) (Option.some Jvm.ClassFile.FieldType.int)) ∈ lw_all := lw_g (lw_at lw_m7 63 rfl) rfl
theorem q1666 : (Jvm.Cond.methodLink "RoundCheckModel" (148 : Nat) ({ cls := "RoundCheckModel", name := "moveLoci", desc := "(I)V" } : Jvm.MethodName)) ∈ lw_all := lw_g (lw_at lw_m7 64 rfl) rfl
theorem q1667 : (Jvm.Cond.privateMethod ({ cls := "RoundCheckModel", name := "moveLoci", desc := "(I)V" } : Jvm.MethodName)) ∈ lw_tbl := lw_at lw_m7 65 rfl
theorem q1668 : (Jvm.Cond.instanceMethod ({ cls := "RoundCheckModel", name := "moveLoci", desc := "(I)V" } : Jvm.MethodName)) ∈ lw_all := lw_g (lw_at lw_m7 66 rfl) rfl
theorem q1669 : (Jvm.Cond.code ({ cls := "RoundCheckModel", name := "moveLoci", desc := "(I)V" } : Jvm.MethodName) prog_4_method_31_code (3 : Nat) (Option.none : Option Jvm.ClassFile.FieldType)) ∈ lw_all := lw_g (lw_at lw_m7 67 rfl) rfl
theorem q1670 : (Jvm.Cond.methodLink "RoundCheckModel" (401 : Nat) ({ cls := "RoundCheckModel", name := "isCongruent", desc := "(II)Z" } : Jvm.MethodName)) ∈ lw_all := lw_g (lw_at lw_m7 68 rfl) rfl
theorem q1671 : (Jvm.Cond.privateMethod ({ cls := "RoundCheckModel", name := "isCongruent", desc := "(II)Z" } : Jvm.MethodName)) ∈ lw_tbl := lw_at lw_m7 69 rfl
theorem q1672 : (Jvm.Cond.instanceMethod ({ cls := "RoundCheckModel", name := "isCongruent", desc := "(II)Z" } : Jvm.MethodName)) ∈ lw_all := lw_g (lw_at lw_m7 70 rfl) rfl
theorem q1673 : (Jvm.Cond.code ({ cls := "RoundCheckModel", name := "isCongruent", desc := "(II)Z" } : Jvm.MethodName) prog_4_method_65_code (7 : Nat) (Option.some Jvm.ClassFile.FieldType.boolean)) ∈ lw_all := lw_g (lw_at lw_m7 71 rfl) rfl
theorem q1674 : (Jvm.Cond.methodLink "RoundCheckModel" (404 : Nat) ({ cls := "RoundCheckModel", name := "byRegistrations", desc := "()V" } : Jvm.MethodName)) ∈ lw_all := lw_g (lw_at lw_m7 72 rfl) rfl
theorem q1675 : (Jvm.Cond.privateMethod ({ cls := "RoundCheckModel", name := "byRegistrations", desc := "()V" } : Jvm.MethodName)) ∈ lw_tbl := lw_at lw_m7 73 rfl
theorem q1676 : (Jvm.Cond.instanceMethod ({ cls := "RoundCheckModel", name := "byRegistrations", desc := "()V" } : Jvm.MethodName)) ∈ lw_all := lw_g (lw_at lw_m7 74 rfl) rfl
theorem q1677 : (Jvm.Cond.code ({ cls := "RoundCheckModel", name := "byRegistrations", desc := "()V" } : Jvm.MethodName) prog_4_method_82_code (5 : Nat) (Option.none : Option Jvm.ClassFile.FieldType)) ∈ lw_all := lw_g (lw_at lw_m7 75 rfl) rfl
theorem q1678 : (Jvm.Cond.methodLink "RoundCheckModel" (484 : Nat) ({ cls := "RoundCheckModel", name := "conditional", desc := "(II)V" } : Jvm.MethodName)) ∈ lw_all := lw_g (lw_at lw_m7 76 rfl) rfl
theorem q1679 : (Jvm.Cond.privateMethod ({ cls := "RoundCheckModel", name := "conditional", desc := "(II)V" } : Jvm.MethodName)) ∈ lw_tbl := lw_at lw_m7 77 rfl
theorem q1680 : (Jvm.Cond.instanceMethod ({ cls := "RoundCheckModel", name := "conditional", desc := "(II)V" } : Jvm.MethodName)) ∈ lw_all := lw_g (lw_at lw_m7 78 rfl) rfl
theorem q1681 : (Jvm.Cond.code ({ cls := "RoundCheckModel", name := "conditional", desc := "(II)V" } : Jvm.MethodName) prog_4_method_85_code (7 : Nat) (Option.none : Option Jvm.ClassFile.FieldType)) ∈ lw_all := lw_g (lw_at lw_m7 79 rfl) rfl
theorem q1682 : (Jvm.Cond.methodLink "RoundCheckModel" (490 : Nat) ({ cls := "RoundCheckModel", name := "adjs", desc := "(II)V" } : Jvm.MethodName)) ∈ lw_all := lw_g (lw_at lw_m7 80 rfl) rfl
theorem q1683 : (Jvm.Cond.privateMethod ({ cls := "RoundCheckModel", name := "adjs", desc := "(II)V" } : Jvm.MethodName)) ∈ lw_tbl := lw_at lw_m7 81 rfl
theorem q1684 : (Jvm.Cond.instanceMethod ({ cls := "RoundCheckModel", name := "adjs", desc := "(II)V" } : Jvm.MethodName)) ∈ lw_all := lw_g (lw_at lw_m7 82 rfl) rfl
theorem q1685 : (Jvm.Cond.code ({ cls := "RoundCheckModel", name := "adjs", desc := "(II)V" } : Jvm.MethodName) prog_4_method_83_code (4 : Nat) (Option.none : Option Jvm.ClassFile.FieldType)) ∈ lw_all := lw_g (lw_at lw_m7 83 rfl) rfl
theorem q1686 : (Jvm.Cond.methodLink "RoundCheckModel" (487 : Nat) ({ cls := "RoundCheckModel", name := "termsFit", desc := "(II)Z" } : Jvm.MethodName)) ∈ lw_all := lw_g (lw_at lw_m7 84 rfl) rfl
theorem q1687 : (Jvm.Cond.privateMethod ({ cls := "RoundCheckModel", name := "termsFit", desc := "(II)Z" } : Jvm.MethodName)) ∈ lw_tbl := lw_at lw_m7 85 rfl
theorem q1688 : (Jvm.Cond.instanceMethod ({ cls := "RoundCheckModel", name := "termsFit", desc := "(II)Z" } : Jvm.MethodName)) ∈ lw_all := lw_g (lw_at lw_m7 86 rfl) rfl
theorem q1689 : (Jvm.Cond.code ({ cls := "RoundCheckModel", name := "termsFit", desc := "(II)Z" } : Jvm.MethodName) prog_4_method_84_code (4 : Nat) (Option.some Jvm.ClassFile.FieldType.boolean)) ∈ lw_all := lw_g (lw_at lw_m7 87 rfl) rfl
theorem q1690 : (Jvm.Cond.methodLink "RoundCheckModel" (463 : Nat) ({ cls := "RoundCheckModel", name := "fitsHere", desc := "(II)Z" } : Jvm.MethodName)) ∈ lw_all := lw_g (lw_at lw_m7 88 rfl) rfl
theorem q1691 : (Jvm.Cond.privateMethod ({ cls := "RoundCheckModel", name := "fitsHere", desc := "(II)Z" } : Jvm.MethodName)) ∈ lw_tbl := lw_at lw_m7 89 rfl
theorem q1692 : (Jvm.Cond.instanceMethod ({ cls := "RoundCheckModel", name := "fitsHere", desc := "(II)Z" } : Jvm.MethodName)) ∈ lw_all := lw_g (lw_at lw_m7 90 rfl) rfl
theorem q1693 : (Jvm.Cond.code ({ cls := "RoundCheckModel", name := "fitsHere", desc := "(II)Z" } : Jvm.MethodName) prog_4_method_62_code (5 : Nat) (Option.some Jvm.ClassFile.FieldType.boolean)) ∈ lw_all := lw_g (lw_at lw_m7 91 rfl) rfl
theorem q1694 : (Jvm.Cond.methodLink "RoundCheckModel" (230 : Nat) ({ cls := "RoundCheckModel", name := "suits", desc := "(II)Z" } : Jvm.MethodName)) ∈ lw_all := lw_g (lw_at lw_m7 92 rfl) rfl
theorem q1695 : (Jvm.Cond.privateMethod ({ cls := "RoundCheckModel", name := "suits", desc := "(II)Z" } : Jvm.MethodName)) ∈ lw_tbl := lw_at lw_m7 93 rfl
theorem q1696 : (Jvm.Cond.instanceMethod ({ cls := "RoundCheckModel", name := "suits", desc := "(II)Z" } : Jvm.MethodName)) ∈ lw_all := lw_g (lw_at lw_m7 94 rfl) rfl
theorem q1697 : (Jvm.Cond.code ({ cls := "RoundCheckModel", name := "suits", desc := "(II)Z" } : Jvm.MethodName) prog_4_method_44_code (4 : Nat) (Option.some Jvm.ClassFile.FieldType.boolean)) ∈ lw_all := lw_g (lw_at lw_m7 95 rfl) rfl
theorem q1698 : (Jvm.Cond.methodLink "RoundCheckModel" (220 : Nat) ({ cls := "RoundCheckModel", name := "has", desc := "(III)Z" } : Jvm.MethodName)) ∈ lw_all := lw_g (lw_at lw_m7 96 rfl) rfl
theorem q1699 : (Jvm.Cond.privateMethod ({ cls := "RoundCheckModel", name := "has", desc := "(III)Z" } : Jvm.MethodName)) ∈ lw_tbl := lw_at lw_m7 97 rfl
theorem q1700 : (Jvm.Cond.instanceMethod ({ cls := "RoundCheckModel", name := "has", desc := "(III)Z" } : Jvm.MethodName)) ∈ lw_all := lw_g (lw_at lw_m7 98 rfl) rfl
theorem q1701 : (Jvm.Cond.code ({ cls := "RoundCheckModel", name := "has", desc := "(III)Z" } : Jvm.MethodName) prog_4_method_36_code (5 : Nat) (Option.some Jvm.ClassFile.FieldType.boolean)) ∈ lw_all := lw_g (lw_at lw_m7 99 rfl) rfl
theorem q1702 : (Jvm.Cond.methodLink "RoundCheckModel" (159 : Nat) ({ cls := "RoundCheckModel", name := "setOf", desc := "(I)I" } : Jvm.MethodName)) ∈ lw_all := lw_g (lw_at lw_m7 100 rfl) rfl
theorem q1703 : (Jvm.Cond.privateMethod ({ cls := "RoundCheckModel", name := "setOf", desc := "(I)I" } : Jvm.MethodName)) ∈ lw_tbl := lw_at lw_m7 101 rfl
theorem q1704 : (Jvm.Cond.instanceMethod ({ cls := "RoundCheckModel", name := "setOf", desc := "(I)I" } : Jvm.MethodName)) ∈ lw_all := lw_g (lw_at lw_m7 102 rfl) rfl
theorem q1705 : (Jvm.Cond.code ({ cls := "RoundCheckModel", name := "setOf", desc := "(I)I" } : Jvm.MethodName) prog_4_method_34_code (4 : Nat) (Option.some Jvm.ClassFile.FieldType.int)) ∈ lw_all := lw_g (lw_at lw_m7 103 rfl) rfl
theorem q1706 : (Jvm.Cond.methodLink "RoundCheckModel" (233 : Nat) ({ cls := "RoundCheckModel", name := "allOf", desc := "(I)I" } : Jvm.MethodName)) ∈ lw_all := lw_g (lw_at lw_m7 104 rfl) rfl
theorem q1707 : (Jvm.Cond.privateMethod ({ cls := "RoundCheckModel", name := "allOf", desc := "(I)I" } : Jvm.MethodName)) ∈ lw_tbl := lw_at lw_m7 105 rfl
theorem q1708 : (Jvm.Cond.instanceMethod ({ cls := "RoundCheckModel", name := "allOf", desc := "(I)I" } : Jvm.MethodName)) ∈ lw_all := lw_g (lw_at lw_m7 106 rfl) rfl
theorem q1709 : (Jvm.Cond.code ({ cls := "RoundCheckModel", name := "allOf", desc := "(I)I" } : Jvm.MethodName) prog_4_method_40_code (6 : Nat) (Option.some Jvm.ClassFile.FieldType.int)) ∈ lw_all := lw_g (lw_at lw_m7 107 rfl) rfl
theorem q1710 : (Jvm.Cond.methodLink "RoundCheckModel" (182 : Nat) ({ cls := "RoundCheckModel", name := "wants", desc := "(I)V" } : Jvm.MethodName)) ∈ lw_all := lw_g (lw_at lw_m7 108 rfl) rfl
theorem q1711 : (Jvm.Cond.privateMethod ({ cls := "RoundCheckModel", name := "wants", desc := "(I)V" } : Jvm.MethodName)) ∈ lw_tbl := lw_at lw_m7 109 rfl
theorem q1712 : (Jvm.Cond.instanceMethod ({ cls := "RoundCheckModel", name := "wants", desc := "(I)V" } : Jvm.MethodName)) ∈ lw_all := lw_g (lw_at lw_m7 110 rfl) rfl
theorem q1713 : (Jvm.Cond.code ({ cls := "RoundCheckModel", name := "wants", desc := "(I)V" } : Jvm.MethodName) prog_4_method_39_code (2 : Nat) (Option.none : Option Jvm.ClassFile.FieldType)) ∈ lw_all := lw_g (lw_at lw_m7 111 rfl) rfl
theorem q1714 : (Jvm.Cond.methodLink "RoundCheckModel" (172 : Nat) ({ cls := "RoundCheckModel", name := "isRemembered", desc := "(I)Z" } : Jvm.MethodName)) ∈ lw_all := lw_g (lw_at lw_m7 112 rfl) rfl
theorem q1715 : (Jvm.Cond.privateMethod ({ cls := "RoundCheckModel", name := "isRemembered", desc := "(I)Z" } : Jvm.MethodName)) ∈ lw_tbl := lw_at lw_m7 113 rfl
theorem q1716 : (Jvm.Cond.instanceMethod ({ cls := "RoundCheckModel", name := "isRemembered", desc := "(I)Z" } : Jvm.MethodName)) ∈ lw_all := lw_g (lw_at lw_m7 114 rfl) rfl
theorem q1717 : (Jvm.Cond.code ({ cls := "RoundCheckModel", name := "isRemembered", desc := "(I)Z" } : Jvm.MethodName) prog_4_method_38_code (2 : Nat) (Option.some Jvm.ClassFile.FieldType.boolean)) ∈ lw_all := lw_g (lw_at lw_m7 115 rfl) rfl
theorem q1718 : (Jvm.Cond.methodLink "RoundCheckModel" (184 : Nat) ({ cls := "RoundCheckModel", name := "found", desc := "(I)I" } : Jvm.MethodName)) ∈ lw_all := lw_g (lw_at lw_m7 116 rfl) rfl
theorem q1719 : (Jvm.Cond.privateMethod ({ cls := "RoundCheckModel", name := "found", desc := "(I)I" } : Jvm.MethodName)) ∈ lw_tbl := lw_at lw_m7 117 rfl
theorem q1720 : (Jvm.Cond.instanceMethod ({ cls := "RoundCheckModel", name := "found", desc := "(I)I" } : Jvm.MethodName)) ∈ lw_all := lw_g (lw_at lw_m7 118 rfl) rfl
theorem q1721 : (Jvm.Cond.code ({ cls := "RoundCheckModel", name := "found", desc := "(I)I" } : Jvm.MethodName) prog_4_method_41_code (6 : Nat) (Option.some Jvm.ClassFile.FieldType.int)) ∈ lw_all := lw_g (lw_at lw_m7 119 rfl) rfl
theorem q1722 : (Jvm.Cond.methodLink "RoundCheckModel" (193 : Nat) ({ cls := "RoundCheckModel", name := "ownAndParents", desc := "(I)I" } : Jvm.MethodName)) ∈ lw_all := lw_g (lw_at lw_m7 120 rfl) rfl
theorem q1723 : (Jvm.Cond.privateMethod ({ cls := "RoundCheckModel", name := "ownAndParents", desc := "(I)I" } : Jvm.MethodName)) ∈ lw_tbl := lw_at lw_m7 121 rfl
theorem q1724 : (Jvm.Cond.instanceMethod ({ cls := "RoundCheckModel", name := "ownAndParents", desc := "(I)I" } : Jvm.MethodName)) ∈ lw_all := lw_g (lw_at lw_m7 122 rfl) rfl
theorem q1725 : (Jvm.Cond.code ({ cls := "RoundCheckModel", name := "ownAndParents", desc := "(I)I" } : Jvm.MethodName) prog_4_method_35_code (4 : Nat) (Option.some Jvm.ClassFile.FieldType.int)) ∈ lw_all := lw_g (lw_at lw_m7 123 rfl) rfl
theorem q1726 : (Jvm.Cond.methodLink "RoundCheckModel" (205 : Nat) ({ cls := "RoundCheckModel", name := "termsSuit", desc := "(II)Z" } : Jvm.MethodName)) ∈ lw_all := lw_g (lw_at lw_m7 124 rfl) rfl
theorem q1727 : (Jvm.Cond.privateMethod ({ cls := "RoundCheckModel", name := "termsSuit", desc := "(II)Z" } : Jvm.MethodName)) ∈ lw_tbl := lw_at lw_m7 125 rfl
theorem q1728 : (Jvm.Cond.instanceMethod ({ cls := "RoundCheckModel", name := "termsSuit", desc := "(II)Z" } : Jvm.MethodName)) ∈ lw_all := lw_g (lw_at lw_m7 126 rfl) rfl
theorem q1729 : (Jvm.Cond.code ({ cls := "RoundCheckModel", name := "termsSuit", desc := "(II)Z" } : Jvm.MethodName) prog_4_method_43_code (4 : Nat) (Option.some Jvm.ClassFile.FieldType.boolean)) ∈ lw_all := lw_g (lw_at lw_m7 127 rfl) rfl
theorem q1730 : (Jvm.Cond.methodLink "RoundCheckModel" (214 : Nat) ({ cls := "RoundCheckModel", name := "hasOf", desc := "(II)Z" } : Jvm.MethodName)) ∈ lw_all := lw_g (lw_at lw_m7 128 rfl) rfl
theorem q1731 : (Jvm.Cond.privateMethod ({ cls := "RoundCheckModel", name := "hasOf", desc := "(II)Z" } : Jvm.MethodName)) ∈ lw_tbl := lw_at lw_m7 129 rfl
theorem q1732 : (Jvm.Cond.instanceMethod ({ cls := "RoundCheckModel", name := "hasOf", desc := "(II)Z" } : Jvm.MethodName)) ∈ lw_all := lw_g (lw_at lw_m7 130 rfl) rfl
theorem q1733 : (Jvm.Cond.code ({ cls := "RoundCheckModel", name := "hasOf", desc := "(II)Z" } : Jvm.MethodName) prog_4_method_42_code (5 : Nat) (Option.some Jvm.ClassFile.FieldType.boolean)) ∈ lw_all := lw_g (lw_at lw_m7 131 rfl) rfl
theorem q1734 : (Jvm.Cond.methodLink "RoundCheckModel" (496 : Nat) ({ cls := "RoundCheckModel", name := "same", desc := "(II)V" } : Jvm.MethodName)) ∈ lw_all := lw_g (lw_at lw_m7 132 rfl) rfl
theorem q1735 : (Jvm.Cond.privateMethod ({ cls := "RoundCheckModel", name := "same", desc := "(II)V" } : Jvm.MethodName)) ∈ lw_tbl := lw_at lw_m7 133 rfl
theorem q1736 : (Jvm.Cond.instanceMethod ({ cls := "RoundCheckModel", name := "same", desc := "(II)V" } : Jvm.MethodName)) ∈ lw_all := lw_g (lw_at lw_m7 134 rfl) rfl
theorem q1737 : (Jvm.Cond.code ({ cls := "RoundCheckModel", name := "same", desc := "(II)V" } : Jvm.MethodName) prog_4_method_66_code (3 : Nat) (Option.none : Option Jvm.ClassFile.FieldType)) ∈ lw_all := lw_g (lw_at lw_m7 135 rfl) rfl
theorem q1738 : (Jvm.Cond.methodLink "RoundCheckModel" (429 : Nat) ({ cls := "RoundCheckModel", name := "isContradictory", desc := "()Z" } : Jvm.MethodName)) ∈ lw_all := lw_g (lw_at lw_m7 136 rfl) rfl
theorem q1739 : (Jvm.Cond.privateMethod ({ cls := "RoundCheckModel", name := "isContradictory", desc := "()Z" } : Jvm.MethodName)) ∈ lw_tbl := lw_at lw_m7 137 rfl
theorem q1740 : (Jvm.Cond.instanceMethod ({ cls := "RoundCheckModel", name := "isContradictory", desc := "()Z" } : Jvm.MethodName)) ∈ lw_all := lw_g (lw_at lw_m7 138 rfl) rfl
theorem q1741 : (Jvm.Cond.code ({ cls := "RoundCheckModel", name := "isContradictory", desc := "()Z" } : Jvm.MethodName) prog_4_method_72_code (4 : Nat) (Option.some Jvm.ClassFile.FieldType.boolean)) ∈ lw_all := lw_g (lw_at lw_m7 139 rfl) rfl
theorem q1742 : (Jvm.Cond.methodLink "RoundCheckModel" (413 : Nat) ({ cls := "RoundCheckModel", name := "holds", desc := "(I)Z" } : Jvm.MethodName)) ∈ lw_all := lw_g (lw_at lw_m7 140 rfl) rfl
theorem q1743 : (Jvm.Cond.privateMethod ({ cls := "RoundCheckModel", name := "holds", desc := "(I)Z" } : Jvm.MethodName)) ∈ lw_tbl := lw_at lw_m7 141 rfl
theorem q1744 : (Jvm.Cond.instanceMethod ({ cls := "RoundCheckModel", name := "holds", desc := "(I)Z" } : Jvm.MethodName)) ∈ lw_all := lw_g (lw_at lw_m7 142 rfl) rfl
theorem q1745 : (Jvm.Cond.code ({ cls := "RoundCheckModel", name := "holds", desc := "(I)Z" } : Jvm.MethodName) prog_4_method_71_code (10 : Nat) (Option.some Jvm.ClassFile.FieldType.boolean)) ∈ lw_all := lw_g (lw_at lw_m7 143 rfl) rfl
theorem q1746 : (Jvm.Cond.methodLink "RoundCheckModel" (416 : Nat) ({ cls := "RoundCheckModel", name := "isKnownAtom", desc := "(IZ)Z" } : Jvm.MethodName)) ∈ lw_all := lw_g (lw_at lw_m7 144 rfl) rfl
theorem q1747 : (Jvm.Cond.privateMethod ({ cls := "RoundCheckModel", name := "isKnownAtom", desc := "(IZ)Z" } : Jvm.MethodName)) ∈ lw_tbl := lw_at lw_m7 145 rfl
theorem q1748 : (Jvm.Cond.instanceMethod ({ cls := "RoundCheckModel", name := "isKnownAtom", desc := "(IZ)Z" } : Jvm.MethodName)) ∈ lw_all := lw_g (lw_at lw_m7 146 rfl) rfl
theorem q1749 : (Jvm.Cond.code ({ cls := "RoundCheckModel", name := "isKnownAtom", desc := "(IZ)Z" } : Jvm.MethodName) prog_4_method_70_code (6 : Nat) (Option.some Jvm.ClassFile.FieldType.boolean)) ∈ lw_all := lw_g (lw_at lw_m7 147 rfl) rfl
theorem q1750 : (Jvm.Cond.methodLink "RoundCheckModel" (407 : Nat) ({ cls := "RoundCheckModel", name := "isAtom", desc := "(I)Z" } : Jvm.MethodName)) ∈ lw_all := lw_g (lw_at lw_m7 148 rfl) rfl
theorem q1751 : (Jvm.Cond.privateMethod ({ cls := "RoundCheckModel", name := "isAtom", desc := "(I)Z" } : Jvm.MethodName)) ∈ lw_tbl := lw_at lw_m7 149 rfl
theorem q1752 : (Jvm.Cond.instanceMethod ({ cls := "RoundCheckModel", name := "isAtom", desc := "(I)Z" } : Jvm.MethodName)) ∈ lw_all := lw_g (lw_at lw_m7 150 rfl) rfl
theorem q1753 : (Jvm.Cond.code ({ cls := "RoundCheckModel", name := "isAtom", desc := "(I)Z" } : Jvm.MethodName) prog_4_method_69_code (2 : Nat) (Option.some Jvm.ClassFile.FieldType.boolean)) ∈ lw_all := lw_g (lw_at lw_m7 151 rfl) rfl
theorem q1754 : (Jvm.Cond.methodLink "RoundCheckModel" (410 : Nat) ({ cls := "RoundCheckModel", name := "isAlike", desc := "(II)Z" } : Jvm.MethodName)) ∈ lw_all := lw_g (lw_at lw_m7 152 rfl) rfl
theorem q1755 : (Jvm.Cond.privateMethod ({ cls := "RoundCheckModel", name := "isAlike", desc := "(II)Z" } : Jvm.MethodName)) ∈ lw_tbl := lw_at lw_m7 153 rfl
theorem q1756 : (Jvm.Cond.instanceMethod ({ cls := "RoundCheckModel", name := "isAlike", desc := "(II)Z" } : Jvm.MethodName)) ∈ lw_all := lw_g (lw_at lw_m7 154 rfl) rfl
theorem q1757 : (Jvm.Cond.code ({ cls := "RoundCheckModel", name := "isAlike", desc := "(II)Z" } : Jvm.MethodName) prog_4_method_68_code (5 : Nat) (Option.some Jvm.ClassFile.FieldType.boolean)) ∈ lw_all := lw_g (lw_at lw_m7 155 rfl) rfl
theorem q1758 : (Jvm.Cond.methodLink "RoundCheckModel" (433 : Nat) ({ cls := "RoundCheckModel", name := "brings", desc := "(II)V" } : Jvm.MethodName)) ∈ lw_all := lw_g (lw_at lw_m7 156 rfl) rfl
theorem q1759 : (Jvm.Cond.privateMethod ({ cls := "RoundCheckModel", name := "brings", desc := "(II)V" } : Jvm.MethodName)) ∈ lw_tbl := lw_at lw_m7 157 rfl
theorem q1760 : (Jvm.Cond.instanceMethod ({ cls := "RoundCheckModel", name := "brings", desc := "(II)V" } : Jvm.MethodName)) ∈ lw_all := lw_g (lw_at lw_m7 158 rfl) rfl
theorem q1761 : (Jvm.Cond.code ({ cls := "RoundCheckModel", name := "brings", desc := "(II)V" } : Jvm.MethodName) prog_4_method_78_code (4 : Nat) (Option.none : Option Jvm.ClassFile.FieldType)) ∈ lw_all := lw_g (lw_at lw_m7 159 rfl) rfl
theorem q1762 : (Jvm.Cond.methodLink "RoundCheckModel" (469 : Nat) ({ cls := "RoundCheckModel", name := "bringsOf", desc := "(II)V" } : Jvm.MethodName)) ∈ lw_all := lw_g (lw_at lw_m7 160 rfl) rfl
theorem q1763 : (Jvm.Cond.privateMethod ({ cls := "RoundCheckModel", name := "bringsOf", desc := "(II)V" } : Jvm.MethodName)) ∈ lw_tbl := lw_at lw_m7 161 rfl
theorem q1764 : (Jvm.Cond.instanceMethod ({ cls := "RoundCheckModel", name := "bringsOf", desc := "(II)V" } : Jvm.MethodName)) ∈ lw_all := lw_g (lw_at lw_m7 162 rfl) rfl
theorem q1765 : (Jvm.Cond.code ({ cls := "RoundCheckModel", name := "bringsOf", desc := "(II)V" } : Jvm.MethodName) prog_4_method_79_code (10 : Nat) (Option.none : Option Jvm.ClassFile.FieldType)) ∈ lw_all := lw_g (lw_at lw_m7 163 rfl) rfl
theorem q1766 : (Jvm.Cond.methodLink "RoundCheckModel" (466 : Nat) ({ cls := "RoundCheckModel", name := "comes", desc := "(I)V" } : Jvm.MethodName)) ∈ lw_all := lw_g (lw_at lw_m7 164 rfl) rfl
theorem q1767 : (Jvm.Cond.privateMethod ({ cls := "RoundCheckModel", name := "comes", desc := "(I)V" } : Jvm.MethodName)) ∈ lw_tbl := lw_at lw_m7 165 rfl
theorem q1768 : (Jvm.Cond.instanceMethod ({ cls := "RoundCheckModel", name := "comes", desc := "(I)V" } : Jvm.MethodName)) ∈ lw_all := lw_g (lw_at lw_m7 166 rfl) rfl
theorem q1769 : (Jvm.Cond.code ({ cls := "RoundCheckModel", name := "comes", desc := "(I)V" } : Jvm.MethodName) prog_4_method_76_code (2 : Nat) (Option.none : Option Jvm.ClassFile.FieldType)) ∈ lw_all := lw_g (lw_at lw_m7 167 rfl) rfl
theorem q1770 : (Jvm.Cond.methodLink "RoundCheckModel" (472 : Nat) ({ cls := "RoundCheckModel", name := "instance", desc := "(II)V" } : Jvm.MethodName)) ∈ lw_all := lw_g (lw_at lw_m7 168 rfl) rfl
theorem q1771 : (Jvm.Cond.privateMethod ({ cls := "RoundCheckModel", name := "instance", desc := "(II)V" } : Jvm.MethodName)) ∈ lw_tbl := lw_at lw_m7 169 rfl
theorem q1772 : (Jvm.Cond.instanceMethod ({ cls := "RoundCheckModel", name := "instance", desc := "(II)V" } : Jvm.MethodName)) ∈ lw_all := lw_g (lw_at lw_m7 170 rfl) rfl
theorem q1773 : (Jvm.Cond.code ({ cls := "RoundCheckModel", name := "instance", desc := "(II)V" } : Jvm.MethodName) prog_4_method_77_code (5 : Nat) (Option.none : Option Jvm.ClassFile.FieldType)) ∈ lw_all := lw_g (lw_at lw_m7 171 rfl) rfl
theorem q1774 : (Jvm.Cond.methodLink "RoundCheckModel" (448 : Nat) ({ cls := "RoundCheckModel", name := "losing", desc := "(III)V" } : Jvm.MethodName)) ∈ lw_all := lw_g (lw_at lw_m7 172 rfl) rfl
theorem q1775 : (Jvm.Cond.privateMethod ({ cls := "RoundCheckModel", name := "losing", desc := "(III)V" } : Jvm.MethodName)) ∈ lw_tbl := lw_at lw_m7 173 rfl
theorem q1776 : (Jvm.Cond.instanceMethod ({ cls := "RoundCheckModel", name := "losing", desc := "(III)V" } : Jvm.MethodName)) ∈ lw_all := lw_g (lw_at lw_m7 174 rfl) rfl
theorem q1777 : (Jvm.Cond.code ({ cls := "RoundCheckModel", name := "losing", desc := "(III)V" } : Jvm.MethodName) prog_4_method_74_code (5 : Nat) (Option.none : Option Jvm.ClassFile.FieldType)) ∈ lw_all := lw_g (lw_at lw_m7 175 rfl) rfl
theorem q1778 : (Jvm.Cond.methodLink "RoundCheckModel" (439 : Nat) ({ cls := "RoundCheckModel", name := "isOnly", desc := "(II)Z" } : Jvm.MethodName)) ∈ lw_all := lw_g (lw_at lw_m7 176 rfl) rfl
theorem q1779 : (Jvm.Cond.privateMethod ({ cls := "RoundCheckModel", name := "isOnly", desc := "(II)Z" } : Jvm.MethodName)) ∈ lw_tbl := lw_at lw_m7 177 rfl
theorem q1780 : (Jvm.Cond.instanceMethod ({ cls := "RoundCheckModel", name := "isOnly", desc := "(II)Z" } : Jvm.MethodName)) ∈ lw_all := lw_g (lw_at lw_m7 178 rfl) rfl
theorem q1781 : (Jvm.Cond.code ({ cls := "RoundCheckModel", name := "isOnly", desc := "(II)Z" } : Jvm.MethodName) prog_4_method_75_code (4 : Nat) (Option.some Jvm.ClassFile.FieldType.boolean)) ∈ lw_all := lw_g (lw_at lw_m7 179 rfl) rfl
theorem q1782 : (Jvm.Cond.methodLink "RoundCheckModel" (300 : Nat) ({ cls := "RoundCheckModel", name := "forget", desc := "(II)V" } : Jvm.MethodName)) ∈ lw_all := lw_g (lw_at lw_m7 180 rfl) rfl
theorem q1783 : (Jvm.Cond.privateMethod ({ cls := "RoundCheckModel", name := "forget", desc := "(II)V" } : Jvm.MethodName)) ∈ lw_tbl := lw_at lw_m7 181 rfl
theorem q1784 : (Jvm.Cond.instanceMethod ({ cls := "RoundCheckModel", name := "forget", desc := "(II)V" } : Jvm.MethodName)) ∈ lw_all := lw_g (lw_at lw_m7 182 rfl) rfl
theorem q1785 : (Jvm.Cond.code ({ cls := "RoundCheckModel", name := "forget", desc := "(II)V" } : Jvm.MethodName) prog_4_method_6_code (3 : Nat) (Option.none : Option Jvm.ClassFile.FieldType)) ∈ lw_all := lw_g (lw_at lw_m7 183 rfl) rfl
theorem q1786 : (Jvm.Cond.methodLink "RoundCheckModel" (475 : Nat) ({ cls := "RoundCheckModel", name := "isDone", desc := "(I)Z" } : Jvm.MethodName)) ∈ lw_all := lw_g (lw_at lw_m7 184 rfl) rfl
theorem q1787 : (Jvm.Cond.privateMethod ({ cls := "RoundCheckModel", name := "isDone", desc := "(I)Z" } : Jvm.MethodName)) ∈ lw_tbl := lw_at lw_m7 185 rfl
theorem q1788 : (Jvm.Cond.instanceMethod ({ cls := "RoundCheckModel", name := "isDone", desc := "(I)Z" } : Jvm.MethodName)) ∈ lw_all := lw_g (lw_at lw_m7 186 rfl) rfl
theorem q1789 : (Jvm.Cond.code ({ cls := "RoundCheckModel", name := "isDone", desc := "(I)Z" } : Jvm.MethodName) prog_4_method_80_code (2 : Nat) (Option.some Jvm.ClassFile.FieldType.boolean)) ∈ lw_all := lw_g (lw_at lw_m7 187 rfl) rfl
theorem q1790 : (Jvm.Cond.methodLink "RoundCheckModel" (478 : Nat) ({ cls := "RoundCheckModel", name := "done", desc := "(I)V" } : Jvm.MethodName)) ∈ lw_all := lw_g (lw_at lw_m7 188 rfl) rfl
theorem q1791 : (Jvm.Cond.privateMethod ({ cls := "RoundCheckModel", name := "done", desc := "(I)V" } : Jvm.MethodName)) ∈ lw_tbl := lw_at lw_m7 189 rfl
theorem q1792 : (Jvm.Cond.instanceMethod ({ cls := "RoundCheckModel", name := "done", desc := "(I)V" } : Jvm.MethodName)) ∈ lw_all := lw_g (lw_at lw_m7 190 rfl) rfl
theorem q1793 : (Jvm.Cond.code ({ cls := "RoundCheckModel", name := "done", desc := "(I)V" } : Jvm.MethodName) prog_4_method_81_code (2 : Nat) (Option.none : Option Jvm.ClassFile.FieldType)) ∈ lw_all := lw_g (lw_at lw_m7 191 rfl) rfl
theorem q1795 : (Jvm.Cond.instanceMethod ({ cls := "RoundCheckModel", name := "fits", desc := "(II)Z" } : Jvm.MethodName)) ∈ lw_all := lw_g (lw_at lw_m7 193 rfl) rfl
theorem q1796 : (Jvm.Cond.selects "RoundCheckModel" ({ cls := "RoundCheckModel", name := "fits", desc := "(II)Z" } : Jvm.MethodName) ({ cls := "RoundCheckModel", name := "fits", desc := "(II)Z" } : Jvm.MethodName)) ∈ lw_all := lw_g (lw_at lw_m7 194 rfl) rfl
theorem q1797 : (Jvm.Cond.code ({ cls := "RoundCheckModel", name := "fits", desc := "(II)Z" } : Jvm.MethodName) prog_4_method_115_code (5 : Nat) (Option.some Jvm.ClassFile.FieldType.boolean)) ∈ lw_all := lw_g (lw_at lw_m7 195 rfl) rfl
theorem q1799 : (Jvm.Cond.instanceMethod ({ cls := "RoundCheckModel", name := "adjectives", desc := "(I)I" } : Jvm.MethodName)) ∈ lw_all := lw_g (lw_at lw_m7 197 rfl) rfl
theorem q1800 : (Jvm.Cond.selects "RoundCheckModel" ({ cls := "RoundCheckModel", name := "adjectives", desc := "(I)I" } : Jvm.MethodName) ({ cls := "RoundCheckModel", name := "adjectives", desc := "(I)I" } : Jvm.MethodName)) ∈ lw_all := lw_g (lw_at lw_m7 198 rfl) rfl
theorem q1801 : (Jvm.Cond.code ({ cls := "RoundCheckModel", name := "adjectives", desc := "(I)I" } : Jvm.MethodName) prog_4_method_116_code (3 : Nat) (Option.some Jvm.ClassFile.FieldType.int)) ∈ lw_all := lw_g (lw_at lw_m7 199 rfl) rfl
theorem q1803 : (Jvm.Cond.instanceMethod ({ cls := "RoundCheckModel", name := "alike", desc := "(II)Z" } : Jvm.MethodName)) ∈ lw_all := lw_g (lw_at lw_m7 201 rfl) rfl
theorem q1804 : (Jvm.Cond.selects "RoundCheckModel" ({ cls := "RoundCheckModel", name := "alike", desc := "(II)Z" } : Jvm.MethodName) ({ cls := "RoundCheckModel", name := "alike", desc := "(II)Z" } : Jvm.MethodName)) ∈ lw_all := lw_g (lw_at lw_m7 202 rfl) rfl
theorem q1805 : (Jvm.Cond.code ({ cls := "RoundCheckModel", name := "alike", desc := "(II)Z" } : Jvm.MethodName) prog_4_method_117_code (3 : Nat) (Option.some Jvm.ClassFile.FieldType.boolean)) ∈ lw_all := lw_g (lw_at lw_m7 203 rfl) rfl
theorem q1807 : (Jvm.Cond.instanceMethod ({ cls := "RoundCheckModel", name := "about", desc := "(II)I" } : Jvm.MethodName)) ∈ lw_all := lw_g (lw_at lw_m7 205 rfl) rfl
theorem q1808 : (Jvm.Cond.selects "RoundCheckModel" ({ cls := "RoundCheckModel", name := "about", desc := "(II)I" } : Jvm.MethodName) ({ cls := "RoundCheckModel", name := "about", desc := "(II)I" } : Jvm.MethodName)) ∈ lw_all := lw_g (lw_at lw_m7 206 rfl) rfl
theorem q1809 : (Jvm.Cond.code ({ cls := "RoundCheckModel", name := "about", desc := "(II)I" } : Jvm.MethodName) prog_4_method_118_code (10 : Nat) (Option.some Jvm.ClassFile.FieldType.int)) ∈ lw_all := lw_g (lw_at lw_m7 207 rfl) rfl
theorem q1811 : (Jvm.Cond.instanceMethod ({ cls := "RoundCheckModel", name := "count", desc := "(I)I" } : Jvm.MethodName)) ∈ lw_all := lw_g (lw_at lw_m7 209 rfl) rfl
theorem q1812 : (Jvm.Cond.selects "RoundCheckModel" ({ cls := "RoundCheckModel", name := "count", desc := "(I)I" } : Jvm.MethodName) ({ cls := "RoundCheckModel", name := "count", desc := "(I)I" } : Jvm.MethodName)) ∈ lw_all := lw_g (lw_at lw_m7 210 rfl) rfl
theorem q1813 : (Jvm.Cond.code ({ cls := "RoundCheckModel", name := "count", desc := "(I)I" } : Jvm.MethodName) prog_4_method_119_code (2 : Nat) (Option.some Jvm.ClassFile.FieldType.int)) ∈ lw_all := lw_g (lw_at lw_m7 211 rfl) rfl
theorem in_X3 : ∀ w ∈ wsX30, w ∈ lw_all := lw_in wsX30 [1215, 1217, 1219, 1221, 1223, 1225, 1227, 1229, 1231, 1233, 1235, 1237, 1239, 1241, 1243, 1245, 1247, 1249, 1251, 1253, 1255, 1257, 1259, 1261, 1263, 1265, 1267, 1269, 1271, 1273, 1275, 1277, 1279, 1281, 1283, 1285, 1287, 1289, 1291, 1293, 1295, 1297, 1299, 1301, 1303, 1305, 1307, 1309, 1311, 1313, 1315, 1317, 1319, 1321, 1323, 1325, 1327, 1329, 1331, 1333, 1335, 1337, 1339, 1341, 1343, 1345, 1347, 1349, 1351, 1353, 1355, 1357, 1359, 1361, 1363, 1365, 1367, 1369, 1371, 1373, 1375, 1377, 1379] (by decide +kernel) (by decide +kernel)
