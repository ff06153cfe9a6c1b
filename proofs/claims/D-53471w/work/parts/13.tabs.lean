/-! the methods, the link tables, the bundles of facts for simp: printed by tools/gen_tabs.py -/
set_option maxRecDepth 100000
def Y_X0_init : gM := (0, yX0_init, cX0_init, 1, none)
theorem mk_X0_init : gMK Y_X0_init := ⟨q161, q98, by decide⟩
def Y_X0_set : gM := (0, yX0_set, cX0_set, 4, (some (.int)))
theorem mk_X0_set : gMK Y_X0_set := ⟨q425, q98, by decide⟩
def Y_X0_isSetting : gM := (0, yX0_isSetting, cX0_isSetting, 2, (some (.boolean)))
theorem mk_X0_isSetting : gMK Y_X0_isSetting := ⟨q428, q98, by decide⟩
def Y_X0_isBetween : gM := (0, yX0_isBetween, cX0_isBetween, 6, (some (.boolean)))
theorem mk_X0_isBetween : gMK Y_X0_isBetween := ⟨q432, q98, by decide⟩
def Y_X0_change : gM := (0, yX0_change, cX0_change, 1, (some (.object "WireDigs$Chip")))
theorem mk_X0_change : gMK Y_X0_change := ⟨q438, q98, by decide⟩
def Y_X0_block : gM := (0, yX0_block, cX0_block, 4, (some (.int)))
theorem mk_X0_block : gMK Y_X0_block := ⟨q1652, q98, by decide⟩
def Y_X0_isPlace : gM := (0, yX0_isPlace, cX0_isPlace, 1, (some (.boolean)))
theorem mk_X0_isPlace : gMK Y_X0_isPlace := ⟨q1655, q98, by decide⟩
def Y_X0_isTaken : gM := (0, yX0_isTaken, cX0_isTaken, 3, (some (.boolean)))
theorem mk_X0_isTaken : gMK Y_X0_isTaken := ⟨q1660, q98, by decide⟩
def Y_X0_over : gM := (0, yX0_over, cX0_over, 1, (some (.int)))
theorem mk_X0_over : gMK Y_X0_over := ⟨q1702, q98, by decide⟩
def Y_X0_net : gM := (0, yX0_net, cX0_net, 8, (some (.int)))
theorem mk_X0_net : gMK Y_X0_net := ⟨q1712, q98, by decide⟩
def Y_X0_arePins : gM := (0, yX0_arePins, cX0_arePins, 4, (some (.boolean)))
theorem mk_X0_arePins : gMK Y_X0_arePins := ⟨q1715, q98, by decide⟩
def Y_X0_isOpen : gM := (0, yX0_isOpen, cX0_isOpen, 2, (some (.boolean)))
theorem mk_X0_isOpen : gMK Y_X0_isOpen := ⟨q1721, q98, by decide⟩
def Y_X0_give : gM := (0, yX0_give, cX0_give, 4, (some (.int)))
theorem mk_X0_give : gMK Y_X0_give := ⟨q1741, q98, by decide⟩
def Y_X0_netOf : gM := (0, yX0_netOf, cX0_netOf, 4, (some (.int)))
theorem mk_X0_netOf : gMK Y_X0_netOf := ⟨q1770, q98, by decide⟩
def Y_X0_viasOf : gM := (0, yX0_viasOf, cX0_viasOf, 4, (some (.int)))
theorem mk_X0_viasOf : gMK Y_X0_viasOf := ⟨q1794, q98, by decide⟩
def Y_X0_cellOf : gM := (0, yX0_cellOf, cX0_cellOf, 2, (some (.int)))
theorem mk_X0_cellOf : gMK Y_X0_cellOf := ⟨q1872, q98, by decide⟩
def Y_X0_wireAt : gM := (0, yX0_wireAt, cX0_wireAt, 7, (some (.int)))
theorem mk_X0_wireAt : gMK Y_X0_wireAt := ⟨q1895, q98, by decide⟩
def Y_X0_lay : gM := (0, yX0_lay, cX0_lay, 2, (some (.int)))
theorem mk_X0_lay : gMK Y_X0_lay := ⟨q2072, q98, by decide⟩
def Y_X0_act : gM := (0, yX0_act, cX0_act, 4, (some (.int)))
theorem mk_X0_act : gMK Y_X0_act := ⟨q2076, q98, by decide⟩
def Y_X0_refuses : gM := (0, yX0_refuses, cX0_refuses, 4, (some (.int)))
theorem mk_X0_refuses : gMK Y_X0_refuses := ⟨q2080, q98, by decide⟩
def Y_X0_findOn : gM := (0, yX0_findOn, cX0_findOn, 4, (some (.boolean)))
theorem mk_X0_findOn : gMK Y_X0_findOn := ⟨q2084, q98, by decide⟩
def Y_X0_stepFrom : gM := (0, yX0_stepFrom, cX0_stepFrom, 5, (some (.int)))
theorem mk_X0_stepFrom : gMK Y_X0_stepFrom := ⟨q2118, q98, by decide⟩
def Y_X0_refusesDig : gM := (0, yX0_refusesDig, cX0_refusesDig, 3, (some (.int)))
theorem mk_X0_refusesDig : gMK Y_X0_refusesDig := ⟨q2142, q98, by decide⟩
def Y_X0_make : gM := (0, yX0_make, cX0_make, 4, (some (.int)))
theorem mk_X0_make : gMK Y_X0_make := ⟨q2165, q98, by decide⟩
def Y_X0_dig : gM := (0, yX0_dig, cX0_dig, 2, (some (.int)))
theorem mk_X0_dig : gMK Y_X0_dig := ⟨q2365, q98, by decide⟩
def Y_X0_rip : gM := (0, yX0_rip, cX0_rip, 2, (some (.int)))
theorem mk_X0_rip : gMK Y_X0_rip := ⟨q2369, q98, by decide⟩
def Y_X0_appeal : gM := (0, yX0_appeal, cX0_appeal, 2, (some (.int)))
theorem mk_X0_appeal : gMK Y_X0_appeal := ⟨q2373, q98, by decide⟩
def Y_X0_hear : gM := (0, yX0_hear, cX0_hear, 1, (some (.int)))
theorem mk_X0_hear : gMK Y_X0_hear := ⟨q2377, q98, by decide⟩
def Y_X0_pass : gM := (0, yX0_pass, cX0_pass, 2, (some (.int)))
theorem mk_X0_pass : gMK Y_X0_pass := ⟨q2381, q98, by decide⟩
def Y_X0_cost : gM := (0, yX0_cost, cX0_cost, 4, (some (.int)))
theorem mk_X0_cost : gMK Y_X0_cost := ⟨q2385, q98, by decide⟩
def Y_X0_asked : gM := (0, yX0_asked, cX0_asked, 4, (some (.int)))
theorem mk_X0_asked : gMK Y_X0_asked := ⟨q2389, q98, by decide⟩
def Y_X0_price : gM := (0, yX0_price, cX0_price, 3, (some (.int)))
theorem mk_X0_price : gMK Y_X0_price := ⟨q2393, q98, by decide⟩
def Y_X0_victims : gM := (0, yX0_victims, cX0_victims, 3, (some (.int)))
theorem mk_X0_victims : gMK Y_X0_victims := ⟨q2397, q98, by decide⟩
def Y_X0_routeAt : gM := (0, yX0_routeAt, cX0_routeAt, 5, (some (.int)))
theorem mk_X0_routeAt : gMK Y_X0_routeAt := ⟨q2401, q98, by decide⟩
def Y_X0_bestOrder : gM := (0, yX0_bestOrder, cX0_bestOrder, 9, (some (.int)))
theorem mk_X0_bestOrder : gMK Y_X0_bestOrder := ⟨q2405, q98, by decide⟩
def Y_X0_waiting : gM := (0, yX0_waiting, cX0_waiting, 4, (some (.object "java/util/List")))
theorem mk_X0_waiting : gMK Y_X0_waiting := ⟨q2409, q98, by decide⟩
def Y_X0_layOrder : gM := (0, yX0_layOrder, cX0_layOrder, 9, none)
theorem mk_X0_layOrder : gMK Y_X0_layOrder := ⟨q2425, q98, by decide⟩
def Y_X0_has : gM := (0, yX0_has, cX0_has, 2, (some (.boolean)))
theorem mk_X0_has : gMK Y_X0_has := ⟨q2428, q98, by decide⟩
def Y_X0_joinedBy : gM := (0, yX0_joinedBy, cX0_joinedBy, 6, (some (.int)))
theorem mk_X0_joinedBy : gMK Y_X0_joinedBy := ⟨q2432, q98, by decide⟩
def Y_X0_claimOf : gM := (0, yX0_claimOf, cX0_claimOf, 4, (some (.int)))
theorem mk_X0_claimOf : gMK Y_X0_claimOf := ⟨q2449, q98, by decide⟩
def Y_X0_docketAt : gM := (0, yX0_docketAt, cX0_docketAt, 5, (some (.int)))
theorem mk_X0_docketAt : gMK Y_X0_docketAt := ⟨q2457, q98, by decide⟩
def Y_X0_wronged : gM := (0, yX0_wronged, cX0_wronged, 1, (some (.int)))
theorem mk_X0_wronged : gMK Y_X0_wronged := ⟨q2463, q98, by decide⟩
def Y_X0_count : gM := (0, yX0_count, cX0_count, 2, (some (.int)))
theorem mk_X0_count : gMK Y_X0_count := ⟨q2471, q98, by decide⟩
def Y_X0_freeCells : gM := (0, yX0_freeCells, cX0_freeCells, 6, (some (.int)))
theorem mk_X0_freeCells : gMK Y_X0_freeCells := ⟨q2479, q98, by decide⟩
def Y_X0_sum : gM := (0, yX0_sum, cX0_sum, 4, (some (.int)))
theorem mk_X0_sum : gMK Y_X0_sum := ⟨q2486, q98, by decide⟩
def Y_X0_undo : gM := (0, yX0_undo, cX0_undo, 1, (some (.int)))
theorem mk_X0_undo : gMK Y_X0_undo := ⟨q2528, q98, by decide⟩
def Y_X0_type : gM := (0, yX0_type, cX0_type, 2, (some (.int)))
theorem mk_X0_type : gMK Y_X0_type := ⟨q2544, q98, by decide⟩
def Y_X0_clearText : gM := (0, yX0_clearText, cX0_clearText, 2, (some (.int)))
theorem mk_X0_clearText : gMK Y_X0_clearText := ⟨q2610, q98, by decide⟩
def Y_X0_fault : gM := (0, yX0_fault, cX0_fault, 3, (some (.int)))
theorem mk_X0_fault : gMK Y_X0_fault := ⟨q2634, q98, by decide⟩
def Y_X0_play : gM := (0, yX0_play, cX0_play, 3, (some (.int)))
theorem mk_X0_play : gMK Y_X0_play := ⟨q2769, q98, by decide⟩
def Y_X1_init : gM := (1, yX1_init, cX1_init, 1, none)
theorem mk_X1_init : gMK Y_X1_init := ⟨q169, q99, by decide⟩
def Y_X1_init_2 : gM := (1, yX1_init_2, cX1_init_2, 4, none)
theorem mk_X1_init_2 : gMK Y_X1_init_2 := ⟨q441, q99, by decide⟩
def Y_X1_own : gM := (1, yX1_own, cX1_own, 5, none)
theorem mk_X1_own : gMK Y_X1_own := ⟨q1606, q99, by decide⟩
def Y_X1_pinOwner : gM := (1, yX1_pinOwner, cX1_pinOwner, 4, (some (.int)))
theorem mk_X1_pinOwner : gMK Y_X1_pinOwner := ⟨q1676, q99, by decide⟩
def Y_X1_blockedMany : gM := (1, yX1_blockedMany, cX1_blockedMany, 6, (some (.int)))
theorem mk_X1_blockedMany : gMK Y_X1_blockedMany := ⟨q1708, q99, by decide⟩
def Y_X1_layOwners : gM := (1, yX1_layOwners, cX1_layOwners, 8, none)
theorem mk_X1_layOwners : gMK Y_X1_layOwners := ⟨q1881, q99, by decide⟩
def Y_X1_priceOf : gM := (1, yX1_priceOf, cX1_priceOf, 2, (some (.int)))
theorem mk_X1_priceOf : gMK Y_X1_priceOf := ⟨q1891, q99, by decide⟩
def Y_X1_canAppeal : gM := (1, yX1_canAppeal, cX1_canAppeal, 2, (some (.boolean)))
theorem mk_X1_canAppeal : gMK Y_X1_canAppeal := ⟨q2157, q99, by decide⟩
def Y_X1_appeals : gM := (1, yX1_appeals, cX1_appeals, 4, (some (.int)))
theorem mk_X1_appeals : gMK Y_X1_appeals := ⟨q2161, q99, by decide⟩
def Y_X1_makeLay : gM := (1, yX1_makeLay, cX1_makeLay, 3, (some (.int)))
theorem mk_X1_makeLay : gMK Y_X1_makeLay := ⟨q2169, q99, by decide⟩
def Y_X1_takeRoute : gM := (1, yX1_takeRoute, cX1_takeRoute, 6, none)
theorem mk_X1_takeRoute : gMK Y_X1_takeRoute := ⟨q2173, q99, by decide⟩
def Y_X1_makeDig : gM := (1, yX1_makeDig, cX1_makeDig, 7, (some (.int)))
theorem mk_X1_makeDig : gMK Y_X1_makeDig := ⟨q2183, q99, by decide⟩
def Y_X1_loseWire : gM := (1, yX1_loseWire, cX1_loseWire, 5, none)
theorem mk_X1_loseWire : gMK Y_X1_loseWire := ⟨q2195, q99, by decide⟩
def Y_X1_makeRip : gM := (1, yX1_makeRip, cX1_makeRip, 3, (some (.int)))
theorem mk_X1_makeRip : gMK Y_X1_makeRip := ⟨q2239, q99, by decide⟩
def Y_X1_makeAppeal : gM := (1, yX1_makeAppeal, cX1_makeAppeal, 2, (some (.int)))
theorem mk_X1_makeAppeal : gMK Y_X1_makeAppeal := ⟨q2244, q99, by decide⟩
def Y_X1_makeHear : gM := (1, yX1_makeHear, cX1_makeHear, 6, (some (.int)))
theorem mk_X1_makeHear : gMK Y_X1_makeHear := ⟨q2249, q99, by decide⟩
def Y_X1_docket : gM := (1, yX1_docket, cX1_docket, 4, (some (.object "WireDigs$Docket")))
theorem mk_X1_docket : gMK Y_X1_docket := ⟨q2253, q99, by decide⟩
def Y_X1_areFree : gM := (1, yX1_areFree, cX1_areFree, 5, (some (.boolean)))
theorem mk_X1_areFree : gMK Y_X1_areFree := ⟨q2352, q99, by decide⟩
def Y_X1_isFree : gM := (1, yX1_isFree, cX1_isFree, 2, (some (.boolean)))
theorem mk_X1_isFree : gMK Y_X1_isFree := ⟨q2358, q99, by decide⟩
def Y_X1_wrongedNets : gM := (1, yX1_wrongedNets, cX1_wrongedNets, 5, (some (.int)))
theorem mk_X1_wrongedNets : gMK Y_X1_wrongedNets := ⟨q2467, q99, by decide⟩
def Y_X1_joinedMany : gM := (1, yX1_joinedMany, cX1_joinedMany, 4, (some (.int)))
theorem mk_X1_joinedMany : gMK Y_X1_joinedMany := ⟨q2475, q99, by decide⟩
def Y_X1_purses : gM := (1, yX1_purses, cX1_purses, 4, (some (.int)))
theorem mk_X1_purses : gMK Y_X1_purses := ⟨q2483, q99, by decide⟩
def Y_X1_crossings : gM := (1, yX1_crossings, cX1_crossings, 5, (some (.int)))
theorem mk_X1_crossings : gMK Y_X1_crossings := ⟨q2503, q99, by decide⟩
def Y_X2_init : gM := (2, yX2_init, cX2_init, 2, none)
theorem mk_X2_init : gMK Y_X2_init := ⟨q175, q100, by decide⟩
def Y_X2_add : gM := (2, yX2_add, cX2_add, 2, none)
theorem mk_X2_add : gMK Y_X2_add := ⟨q1506, q100, by decide⟩
def Y_X2_isFull : gM := (2, yX2_isFull, cX2_isFull, 2, (some (.boolean)))
theorem mk_X2_isFull : gMK Y_X2_isFull := ⟨q1725, q100, by decide⟩
def Y_X2_size : gM := (2, yX2_size, cX2_size, 1, (some (.int)))
theorem mk_X2_size : gMK Y_X2_size := ⟨q1734, q100, by decide⟩
def Y_X2_isIn : gM := (2, yX2_isIn, cX2_isIn, 2, (some (.boolean)))
theorem mk_X2_isIn : gMK Y_X2_isIn := ⟨q1745, q100, by decide⟩
def Y_X2_get : gM := (2, yX2_get, cX2_get, 2, (some (.object "WireDigs$Counted")))
theorem mk_X2_get : gMK Y_X2_get := ⟨q1750, q100, by decide⟩
def Y_X3_init : gM := (3, yX3_init, cX3_init, 1, none)
theorem mk_X3_init : gMK Y_X3_init := ⟨q364, q112, by decide⟩
def Y_X3_begin : gM := (3, yX3_begin, cX3_begin, 4, none)
theorem mk_X3_begin : gMK Y_X3_begin := ⟨q1877, q112, by decide⟩
def Y_X3_find : gM := (3, yX3_find, cX3_find, 4, (some (.boolean)))
theorem mk_X3_find : gMK Y_X3_find := ⟨q2088, q112, by decide⟩
def Y_X3_join : gM := (3, yX3_join, cX3_join, 3, none)
theorem mk_X3_join : gMK Y_X3_join := ⟨q2092, q112, by decide⟩
def Y_X3_goes : gM := (3, yX3_goes, cX3_goes, 7, (some (.boolean)))
theorem mk_X3_goes : gMK Y_X3_goes := ⟨q2098, q112, by decide⟩
def Y_X3_layFar : gM := (3, yX3_layFar, cX3_layFar, 6, none)
theorem mk_X3_layFar : gMK Y_X3_layFar := ⟨q2102, q112, by decide⟩
def Y_X3_leastFrom : gM := (3, yX3_leastFrom, cX3_leastFrom, 7, (some (.int)))
theorem mk_X3_leastFrom : gMK Y_X3_leastFrom := ⟨q2107, q112, by decide⟩
def Y_X3_entry : gM := (3, yX3_entry, cX3_entry, 5, (some (.int)))
theorem mk_X3_entry : gMK Y_X3_entry := ⟨q2111, q112, by decide⟩
def Y_X3_neighbor : gM := (3, yX3_neighbor, cX3_neighbor, 3, (some (.int)))
theorem mk_X3_neighbor : gMK Y_X3_neighbor := ⟨q2115, q112, by decide⟩
def Y_X3_costBy : gM := (3, yX3_costBy, cX3_costBy, 5, (some (.int)))
theorem mk_X3_costBy : gMK Y_X3_costBy := ⟨q2123, q112, by decide⟩
def Y_X3_stepCost : gM := (3, yX3_stepCost, cX3_stepCost, 3, (some (.int)))
theorem mk_X3_stepCost : gMK Y_X3_stepCost := ⟨q2127, q112, by decide⟩
def Y_X3_take : gM := (3, yX3_take, cX3_take, 3, none)
theorem mk_X3_take : gMK Y_X3_take := ⟨q2132, q112, by decide⟩
def Y_X3_nextOf : gM := (3, yX3_nextOf, cX3_nextOf, 8, (some (.int)))
theorem mk_X3_nextOf : gMK Y_X3_nextOf := ⟨q2138, q112, by decide⟩
def Y_X3_victimSet : gM := (3, yX3_victimSet, cX3_victimSet, 3, (some (.int)))
theorem mk_X3_victimSet : gMK Y_X3_victimSet := ⟨q2146, q112, by decide⟩
def Y_X3_settle : gM := (3, yX3_settle, cX3_settle, 3, none)
theorem mk_X3_settle : gMK Y_X3_settle := ⟨q2443, q112, by decide⟩
def Y_X4_init : gM := (4, yX4_init, cX4_init, 1, none)
theorem mk_X4_init : gMK Y_X4_init := ⟨q2774, q113, by decide⟩
def Y_X4_undo : gM := (4, yX4_undo, cX4_undo, 2, (some (.int)))
theorem mk_X4_undo : gMK Y_X4_undo := ⟨q2837, q113, by decide⟩
def Y_X4_set : gM := (4, yX4_set, cX4_set, 4, (some (.int)))
theorem mk_X4_set : gMK Y_X4_set := ⟨q2842, q113, by decide⟩
def Y_X4_in : gM := (4, yX4_in, cX4_in, 3, (some (.boolean)))
theorem mk_X4_in : gMK Y_X4_in := ⟨q2845, q113, by decide⟩
def Y_X4_least : gM := (4, yX4_least, cX4_least, 1, (some (.int)))
theorem mk_X4_least : gMK Y_X4_least := ⟨q2848, q113, by decide⟩
def Y_X4_most : gM := (4, yX4_most, cX4_most, 1, (some (.int)))
theorem mk_X4_most : gMK Y_X4_most := ⟨q2851, q113, by decide⟩
def Y_X4_copy : gM := (4, yX4_copy, cX4_copy, 2, none)
theorem mk_X4_copy : gMK Y_X4_copy := ⟨q2856, q113, by decide⟩
def Y_X4_recorded : gM := (4, yX4_recorded, cX4_recorded, 3, (some (.int)))
theorem mk_X4_recorded : gMK Y_X4_recorded := ⟨q2860, q113, by decide⟩
def Y_X4_block : gM := (4, yX4_block, cX4_block, 3, (some (.int)))
theorem mk_X4_block : gMK Y_X4_block := ⟨q2864, q113, by decide⟩
def Y_X4_isFree : gM := (4, yX4_isFree, cX4_isFree, 2, (some (.boolean)))
theorem mk_X4_isFree : gMK Y_X4_isFree := ⟨q2868, q113, by decide⟩
def Y_X4_blockedMany : gM := (4, yX4_blockedMany, cX4_blockedMany, 3, (some (.int)))
theorem mk_X4_blockedMany : gMK Y_X4_blockedMany := ⟨q2872, q113, by decide⟩
def Y_X4_net : gM := (4, yX4_net, cX4_net, 10, (some (.int)))
theorem mk_X4_net : gMK Y_X4_net := ⟨q2876, q113, by decide⟩
def Y_X4_give : gM := (4, yX4_give, cX4_give, 3, (some (.int)))
theorem mk_X4_give : gMK Y_X4_give := ⟨q2881, q113, by decide⟩
def Y_X4_isNet : gM := (4, yX4_isNet, cX4_isNet, 2, (some (.boolean)))
theorem mk_X4_isNet : gMK Y_X4_isNet := ⟨q2885, q113, by decide⟩
def Y_X4_of : gM := (4, yX4_of, cX4_of, 3, (some (.int)))
theorem mk_X4_of : gMK Y_X4_of := ⟨q2889, q113, by decide⟩
def Y_X4_adds : gM := (4, yX4_adds, cX4_adds, 4, none)
theorem mk_X4_adds : gMK Y_X4_adds := ⟨q2894, q113, by decide⟩
def Y_X4_netOf : gM := (4, yX4_netOf, cX4_netOf, 3, (some (.int)))
theorem mk_X4_netOf : gMK Y_X4_netOf := ⟨q2898, q113, by decide⟩
def Y_X4_wireMany : gM := (4, yX4_wireMany, cX4_wireMany, 4, (some (.int)))
theorem mk_X4_wireMany : gMK Y_X4_wireMany := ⟨q2903, q113, by decide⟩
def Y_X4_viaMany : gM := (4, yX4_viaMany, cX4_viaMany, 4, (some (.int)))
theorem mk_X4_viaMany : gMK Y_X4_viaMany := ⟨q2907, q113, by decide⟩
def Y_X4_cellOf : gM := (4, yX4_cellOf, cX4_cellOf, 3, (some (.int)))
theorem mk_X4_cellOf : gMK Y_X4_cellOf := ⟨q2911, q113, by decide⟩
def Y_X4_wireAt : gM := (4, yX4_wireAt, cX4_wireAt, 5, (some (.int)))
theorem mk_X4_wireAt : gMK Y_X4_wireAt := ⟨q2915, q113, by decide⟩
def Y_X4_lay : gM := (4, yX4_lay, cX4_lay, 2, (some (.int)))
theorem mk_X4_lay : gMK Y_X4_lay := ⟨q2919, q113, by decide⟩
def Y_X4_lays : gM := (4, yX4_lays, cX4_lays, 2, (some (.int)))
theorem mk_X4_lays : gMK Y_X4_lays := ⟨q2923, q113, by decide⟩
def Y_X4_isJoined : gM := (4, yX4_isJoined, cX4_isJoined, 2, (some (.boolean)))
theorem mk_X4_isJoined : gMK Y_X4_isJoined := ⟨q2927, q113, by decide⟩
def Y_X4_routes : gM := (4, yX4_routes, cX4_routes, 4, (some (.boolean)))
theorem mk_X4_routes : gMK Y_X4_routes := ⟨q2931, q113, by decide⟩
def Y_X4_joinsPin : gM := (4, yX4_joinsPin, cX4_joinsPin, 4, none)
theorem mk_X4_joinsPin : gMK Y_X4_joinsPin := ⟨q2935, q113, by decide⟩
def Y_X4_paths : gM := (4, yX4_paths, cX4_paths, 8, (some (.boolean)))
theorem mk_X4_paths : gMK Y_X4_paths := ⟨q2939, q113, by decide⟩
def Y_X4_measures : gM := (4, yX4_measures, cX4_measures, 7, none)
theorem mk_X4_measures : gMK Y_X4_measures := ⟨q2943, q113, by decide⟩
def Y_X4_neighbour : gM := (4, yX4_neighbour, cX4_neighbour, 5, (some (.int)))
theorem mk_X4_neighbour : gMK Y_X4_neighbour := ⟨q2947, q113, by decide⟩
def Y_X4_into : gM := (4, yX4_into, cX4_into, 6, (some (.int)))
theorem mk_X4_into : gMK Y_X4_into := ⟨q2951, q113, by decide⟩
def Y_X4_nextOf : gM := (4, yX4_nextOf, cX4_nextOf, 6, (some (.int)))
theorem mk_X4_nextOf : gMK Y_X4_nextOf := ⟨q2955, q113, by decide⟩
def Y_X4_wires : gM := (4, yX4_wires, cX4_wires, 3, none)
theorem mk_X4_wires : gMK Y_X4_wires := ⟨q2959, q113, by decide⟩
def Y_X4_dig : gM := (4, yX4_dig, cX4_dig, 2, (some (.int)))
theorem mk_X4_dig : gMK Y_X4_dig := ⟨q2963, q113, by decide⟩
def Y_X4_digsFor : gM := (4, yX4_digsFor, cX4_digsFor, 6, (some (.int)))
theorem mk_X4_digsFor : gMK Y_X4_digsFor := ⟨q2967, q113, by decide⟩
def Y_X4_duesOf : gM := (4, yX4_duesOf, cX4_duesOf, 3, (some (.int)))
theorem mk_X4_duesOf : gMK Y_X4_duesOf := ⟨q2971, q113, by decide⟩
def Y_X4_due : gM := (4, yX4_due, cX4_due, 2, (some (.int)))
theorem mk_X4_due : gMK Y_X4_due := ⟨q2975, q113, by decide⟩
def Y_X4_through : gM := (4, yX4_through, cX4_through, 6, (some (.int)))
theorem mk_X4_through : gMK Y_X4_through := ⟨q2979, q113, by decide⟩
def Y_X4_victimsOf : gM := (4, yX4_victimsOf, cX4_victimsOf, 3, (some (.int)))
theorem mk_X4_victimsOf : gMK Y_X4_victimsOf := ⟨q2983, q113, by decide⟩
def Y_X4_bits : gM := (4, yX4_bits, cX4_bits, 3, (some (.int)))
theorem mk_X4_bits : gMK Y_X4_bits := ⟨q2986, q113, by decide⟩
def Y_X4_pays : gM := (4, yX4_pays, cX4_pays, 4, none)
theorem mk_X4_pays : gMK Y_X4_pays := ⟨q2990, q113, by decide⟩
def Y_X4_claims : gM := (4, yX4_claims, cX4_claims, 6, none)
theorem mk_X4_claims : gMK Y_X4_claims := ⟨q2994, q113, by decide⟩
def Y_X4_loses : gM := (4, yX4_loses, cX4_loses, 3, none)
theorem mk_X4_loses : gMK Y_X4_loses := ⟨q2998, q113, by decide⟩
def Y_X4_rip : gM := (4, yX4_rip, cX4_rip, 2, (some (.int)))
theorem mk_X4_rip : gMK Y_X4_rip := ⟨q3002, q113, by decide⟩
def Y_X4_rips : gM := (4, yX4_rips, cX4_rips, 3, (some (.int)))
theorem mk_X4_rips : gMK Y_X4_rips := ⟨q3006, q113, by decide⟩
def Y_X4_appeal : gM := (4, yX4_appeal, cX4_appeal, 2, (some (.int)))
theorem mk_X4_appeal : gMK Y_X4_appeal := ⟨q3010, q113, by decide⟩
def Y_X4_appeals : gM := (4, yX4_appeals, cX4_appeals, 2, (some (.int)))
theorem mk_X4_appeals : gMK Y_X4_appeals := ⟨q3014, q113, by decide⟩
def Y_X4_isClaim : gM := (4, yX4_isClaim, cX4_isClaim, 2, (some (.boolean)))
theorem mk_X4_isClaim : gMK Y_X4_isClaim := ⟨q3018, q113, by decide⟩
def Y_X4_claimAt : gM := (4, yX4_claimAt, cX4_claimAt, 3, (some (.int)))
theorem mk_X4_claimAt : gMK Y_X4_claimAt := ⟨q3022, q113, by decide⟩
def Y_X4_since : gM := (4, yX4_since, cX4_since, 2, (some (.int)))
theorem mk_X4_since : gMK Y_X4_since := ⟨q3026, q113, by decide⟩
def Y_X4_appealMany : gM := (4, yX4_appealMany, cX4_appealMany, 3, (some (.int)))
theorem mk_X4_appealMany : gMK Y_X4_appealMany := ⟨q3030, q113, by decide⟩
def Y_X4_hear : gM := (4, yX4_hear, cX4_hear, 1, (some (.int)))
theorem mk_X4_hear : gMK Y_X4_hear := ⟨q3034, q113, by decide⟩
def Y_X4_hears : gM := (4, yX4_hears, cX4_hears, 5, (some (.int)))
theorem mk_X4_hears : gMK Y_X4_hears := ⟨q3038, q113, by decide⟩
def Y_X4_heard : gM := (4, yX4_heard, cX4_heard, 6, (some (.int)))
theorem mk_X4_heard : gMK Y_X4_heard := ⟨q3042, q113, by decide⟩
def Y_X4_loss : gM := (4, yX4_loss, cX4_loss, 2, (some (.int)))
theorem mk_X4_loss : gMK Y_X4_loss := ⟨q3046, q113, by decide⟩
def Y_X4_comesBack : gM := (4, yX4_comesBack, cX4_comesBack, 5, none)
theorem mk_X4_comesBack : gMK Y_X4_comesBack := ⟨q3050, q113, by decide⟩
def Y_X4_was : gM := (4, yX4_was, cX4_was, 3, (some (.boolean)))
theorem mk_X4_was : gMK Y_X4_was := ⟨q3054, q113, by decide⟩
def Y_X4_pass : gM := (4, yX4_pass, cX4_pass, 2, (some (.int)))
theorem mk_X4_pass : gMK Y_X4_pass := ⟨q3058, q113, by decide⟩
def Y_X4_passes : gM := (4, yX4_passes, cX4_passes, 2, (some (.int)))
theorem mk_X4_passes : gMK Y_X4_passes := ⟨q3062, q113, by decide⟩
def Y_X4_cost : gM := (4, yX4_cost, cX4_cost, 4, (some (.int)))
theorem mk_X4_cost : gMK Y_X4_cost := ⟨q3066, q113, by decide⟩
def Y_X4_refused : gM := (4, yX4_refused, cX4_refused, 3, (some (.int)))
theorem mk_X4_refused : gMK Y_X4_refused := ⟨q3070, q113, by decide⟩
def Y_X4_price : gM := (4, yX4_price, cX4_price, 3, (some (.int)))
theorem mk_X4_price : gMK Y_X4_price := ⟨q3074, q113, by decide⟩
def Y_X4_victims : gM := (4, yX4_victims, cX4_victims, 3, (some (.int)))
theorem mk_X4_victims : gMK Y_X4_victims := ⟨q3078, q113, by decide⟩
def Y_X4_routeAt : gM := (4, yX4_routeAt, cX4_routeAt, 5, (some (.int)))
theorem mk_X4_routeAt : gMK Y_X4_routeAt := ⟨q3082, q113, by decide⟩
def Y_X4_bestOrder : gM := (4, yX4_bestOrder, cX4_bestOrder, 8, (some (.int)))
theorem mk_X4_bestOrder : gMK Y_X4_bestOrder := ⟨q3086, q113, by decide⟩
def Y_X4_ordered : gM := (4, yX4_ordered, cX4_ordered, 10, (some (.int)))
theorem mk_X4_ordered : gMK Y_X4_ordered := ⟨q3090, q113, by decide⟩
def Y_X4_claimOf : gM := (4, yX4_claimOf, cX4_claimOf, 3, (some (.int)))
theorem mk_X4_claimOf : gMK Y_X4_claimOf := ⟨q3094, q113, by decide⟩
def Y_X4_docketAt : gM := (4, yX4_docketAt, cX4_docketAt, 2, (some (.int)))
theorem mk_X4_docketAt : gMK Y_X4_docketAt := ⟨q3098, q113, by decide⟩
def Y_X4_wronged : gM := (4, yX4_wronged, cX4_wronged, 4, (some (.int)))
theorem mk_X4_wronged : gMK Y_X4_wronged := ⟨q3102, q113, by decide⟩
def Y_X4_count : gM := (4, yX4_count, cX4_count, 2, (some (.int)))
theorem mk_X4_count : gMK Y_X4_count := ⟨q3106, q113, by decide⟩
def Y_X4_overNets : gM := (4, yX4_overNets, cX4_overNets, 4, (some (.int)))
theorem mk_X4_overNets : gMK Y_X4_overNets := ⟨q3110, q113, by decide⟩
def Y_X4_cellsThat : gM := (4, yX4_cellsThat, cX4_cellsThat, 5, (some (.int)))
theorem mk_X4_cellsThat : gMK Y_X4_cellsThat := ⟨q3114, q113, by decide⟩
def Y_X4_crossings : gM := (4, yX4_crossings, cX4_crossings, 5, (some (.int)))
theorem mk_X4_crossings : gMK Y_X4_crossings := ⟨q3118, q113, by decide⟩
def Y_X4_type : gM := (4, yX4_type, cX4_type, 2, (some (.int)))
theorem mk_X4_type : gMK Y_X4_type := ⟨q3122, q113, by decide⟩
def Y_X4_clearText : gM := (4, yX4_clearText, cX4_clearText, 2, (some (.int)))
theorem mk_X4_clearText : gMK Y_X4_clearText := ⟨q3126, q113, by decide⟩
def Y_X4_fault : gM := (4, yX4_fault, cX4_fault, 2, (some (.int)))
theorem mk_X4_fault : gMK Y_X4_fault := ⟨q3130, q113, by decide⟩
def Y_X4_tries : gM := (4, yX4_tries, cX4_tries, 1, none)
theorem mk_X4_tries : gMK Y_X4_tries := ⟨q3134, q113, by decide⟩
def Y_X4_order : gM := (4, yX4_order, cX4_order, 5, none)
theorem mk_X4_order : gMK Y_X4_order := ⟨q3138, q113, by decide⟩
def Y_X4_here : gM := (4, yX4_here, cX4_here, 1, (some (.int)))
theorem mk_X4_here : gMK Y_X4_here := ⟨q3142, q113, by decide⟩
def Y_X4_number : gM := (4, yX4_number, cX4_number, 3, (some (.int)))
theorem mk_X4_number : gMK Y_X4_number := ⟨q3146, q113, by decide⟩
def Y_X4_back : gM := (4, yX4_back, cX4_back, 2, none)
theorem mk_X4_back : gMK Y_X4_back := ⟨q3150, q113, by decide⟩
def Y_X4_play : gM := (4, yX4_play, cX4_play, 1, (some (.int)))
theorem mk_X4_play : gMK Y_X4_play := ⟨q3154, q113, by decide⟩
def Y_X5_init : gM := (5, yX5_init, cX5_init, 2, none)
theorem mk_X5_init : gMK Y_X5_init := ⟨q597, q116, by decide⟩
def Y_X5_init_2 : gM := (5, yX5_init_2, cX5_init_2, 5, none)
theorem mk_X5_init_2 : gMK Y_X5_init_2 := ⟨q600, q116, by decide⟩
def Y_X5_takeWire : gM := (5, yX5_takeWire, cX5_takeWire, 5, none)
theorem mk_X5_takeWire : gMK Y_X5_takeWire := ⟨q686, q116, by decide⟩
def Y_X5_hasPin : gM := (5, yX5_hasPin, cX5_hasPin, 7, (some (.boolean)))
theorem mk_X5_hasPin : gMK Y_X5_hasPin := ⟨q1680, q116, by decide⟩
def Y_X5_many : gM := (5, yX5_many, cX5_many, 1, (some (.int)))
theorem mk_X5_many : gMK Y_X5_many := ⟨q1776, q116, by decide⟩
def Y_X5_vias : gM := (5, yX5_vias, cX5_vias, 1, (some (.int)))
theorem mk_X5_vias : gMK Y_X5_vias := ⟨q1791, q116, by decide⟩
def Y_X5_pay : gM := (5, yX5_pay, cX5_pay, 3, none)
theorem mk_X5_pay : gMK Y_X5_pay := ⟨q2190, q116, by decide⟩
def Y_X6_init : gM := (6, yX6_init, cX6_init, 2, none)
theorem mk_X6_init : gMK Y_X6_init := ⟨q1552, q145, by decide⟩
def Y_X6_init_2 : gM := (6, yX6_init_2, cX6_init_2, 10, none)
theorem mk_X6_init_2 : gMK Y_X6_init_2 := ⟨q1555, q145, by decide⟩
def Y_X6_loss : gM := (6, yX6_loss, cX6_loss, 2, (some (.int)))
theorem mk_X6_loss : gMK Y_X6_loss := ⟨q1981, q145, by decide⟩
def Y_X6_many : gM := (6, yX6_many, cX6_many, 1, (some (.int)))
theorem mk_X6_many : gMK Y_X6_many := ⟨q1985, q145, by decide⟩
def Y_X7_hashCode : gM := (7, yX7_hashCode, cX7_hashCode, 1, (some (.int)))
theorem mk_X7_hashCode : gMK Y_X7_hashCode := ⟨q921, q146, by decide⟩
def Y_X7_compareTo : gM := (7, yX7_compareTo, cX7_compareTo, 2, (some (.int)))
theorem mk_X7_compareTo : gMK Y_X7_compareTo := ⟨q1151, q146, by decide⟩
def Y_X7_compareTo_2 : gM := (7, yX7_compareTo_2, cX7_compareTo_2, 2, (some (.int)))
theorem mk_X7_compareTo_2 : gMK Y_X7_compareTo_2 := ⟨q1156, q146, by decide⟩
def Y_X7_equals : gM := (7, yX7_equals, cX7_equals, 2, (some (.boolean)))
theorem mk_X7_equals : gMK Y_X7_equals := ⟨q1396, q146, by decide⟩
def Y_X7_init : gM := (7, yX7_init, cX7_init, 2, none)
theorem mk_X7_init : gMK Y_X7_init := ⟨q1665, q146, by decide⟩
def Y_X7_above : gM := (7, yX7_above, cX7_above, 1, (some (.object "WireDigs$Cell")))
theorem mk_X7_above : gMK Y_X7_above := ⟨q1699, q146, by decide⟩
def Y_X7_place : gM := (7, yX7_place, cX7_place, 1, (some (.int)))
theorem mk_X7_place : gMK Y_X7_place := ⟨q2178, q146, by decide⟩
def Y_X8_init : gM := (8, yX8_init, cX8_init, 2, none)
theorem mk_X8_init : gMK Y_X8_init := ⟨q2268, q151, by decide⟩
def Y_X8_add : gM := (8, yX8_add, cX8_add, 3, none)
theorem mk_X8_add : gMK Y_X8_add := ⟨q2302, q151, by decide⟩
def Y_X8_next : gM := (8, yX8_next, cX8_next, 1, (some (.object "java/lang/Object")))
theorem mk_X8_next : gMK Y_X8_next := ⟨q2335, q151, by decide⟩
def Y_X9_compare : gM := (9, yX9_compare, cX9_compare, 3, (some (.int)))
theorem mk_X9_compare : gMK Y_X9_compare := ⟨q1972, q152, by decide⟩
def Y_X9_compare_2 : gM := (9, yX9_compare_2, cX9_compare_2, 4, (some (.int)))
theorem mk_X9_compare_2 : gMK Y_X9_compare_2 := ⟨q1977, q152, by decide⟩
def Y_X9_init : gM := (9, yX9_init, cX9_init, 2, none)
theorem mk_X9_init : gMK Y_X9_init := ⟨q2260, q152, by decide⟩
def Y_X10_init : gM := (10, yX10_init, cX10_init, 2, none)
theorem mk_X10_init : gMK Y_X10_init := ⟨q2639, q155, by decide⟩
def Y_X10_isWell : gM := (10, yX10_isWell, cX10_isWell, 1, (some (.boolean)))
theorem mk_X10_isWell : gMK Y_X10_isWell := ⟨q2669, q155, by decide⟩
def Y_X10_why : gM := (10, yX10_why, cX10_why, 4, (some (.int)))
theorem mk_X10_why : gMK Y_X10_why := ⟨q2674, q155, by decide⟩
def Y_X10_number : gM := (10, yX10_number, cX10_number, 3, (some (.int)))
theorem mk_X10_number : gMK Y_X10_number := ⟨q2742, q155, by decide⟩
def Y_X10_isDigit : gM := (10, yX10_isDigit, cX10_isDigit, 1, (some (.boolean)))
theorem mk_X10_isDigit : gMK Y_X10_isDigit := ⟨q2746, q155, by decide⟩
def Y_X10_ends : gM := (10, yX10_ends, cX10_ends, 1, (some (.boolean)))
theorem mk_X10_ends : gMK Y_X10_ends := ⟨q2753, q155, by decide⟩
def Y_X10_isThere : gM := (10, yX10_isThere, cX10_isThere, 3, (some (.boolean)))
theorem mk_X10_isThere : gMK Y_X10_isThere := ⟨q2757, q155, by decide⟩
def Y_X10_can : gM := (10, yX10_can, cX10_can, 3, (some (.boolean)))
theorem mk_X10_can : gMK Y_X10_can := ⟨q2762, q155, by decide⟩
def Y_J0_init : gM := (100, yJ0_init, cJ0_init, 1, none)
theorem mk_J0_init : gMK Y_J0_init := ⟨q187, q101, by decide⟩
def Y_J1_init : gM := (101, yJ1_init, cJ1_init, 1, none)
theorem mk_J1_init : gMK Y_J1_init := ⟨q184, q102, by decide⟩
def Y_J2_init : gM := (102, yJ2_init, cJ2_init, 1, none)
theorem mk_J2_init : gMK Y_J2_init := ⟨q181, q103, by decide⟩
def Y_J2_iterator : gM := (102, yJ2_iterator, cJ2_iterator, 1, (some (.object "java/util/Iterator")))
theorem mk_J2_iterator : gMK Y_J2_iterator := ⟨q445, q103, by decide⟩
def Y_J2_add : gM := (102, yJ2_add, cJ2_add, 2, (some (.boolean)))
theorem mk_J2_add : gMK Y_J2_add := ⟨q1510, q103, by decide⟩
def Y_J2_add_2 : gM := (102, yJ2_add_2, cJ2_add_2, 4, none)
theorem mk_J2_add_2 : gMK Y_J2_add_2 := ⟨q1514, q103, by decide⟩
def Y_J2_grow : gM := (102, yJ2_grow, cJ2_grow, 1, (some (.array (.object "java/lang/Object"))))
theorem mk_J2_grow : gMK Y_J2_grow := ⟨q1518, q103, by decide⟩
def Y_J2_grow_2 : gM := (102, yJ2_grow_2, cJ2_grow_2, 4, (some (.array (.object "java/lang/Object"))))
theorem mk_J2_grow_2 : gMK Y_J2_grow_2 := ⟨q1522, q103, by decide⟩
def Y_J2_size : gM := (102, yJ2_size, cJ2_size, 1, (some (.int)))
theorem mk_J2_size : gMK Y_J2_size := ⟨q1729, q103, by decide⟩
def Y_J2_get : gM := (102, yJ2_get, cJ2_get, 2, (some (.object "java/lang/Object")))
theorem mk_J2_get : gMK Y_J2_get := ⟨q1754, q103, by decide⟩
def Y_J2_elementData : gM := (102, yJ2_elementData, cJ2_elementData, 2, (some (.object "java/lang/Object")))
theorem mk_J2_elementData : gMK Y_J2_elementData := ⟨q1764, q103, by decide⟩
def Y_J3_init : gM := (103, yJ3_init, cJ3_init, 1, none)
theorem mk_J3_init : gMK Y_J3_init := ⟨q226, q104, by decide⟩
def Y_J4_init : gM := (104, yJ4_init, cJ4_init, 1, none)
theorem mk_J4_init : gMK Y_J4_init := ⟨q223, q105, by decide⟩
def Y_J4_init_2 : gM := (104, yJ4_init_2, cJ4_init_2, 3, none)
theorem mk_J4_init_2 : gMK Y_J4_init_2 := ⟨q621, q105, by decide⟩
def Y_J4_tableSizeFor : gM := (104, yJ4_tableSizeFor, cJ4_tableSizeFor, 2, (some (.int)))
theorem mk_J4_tableSizeFor : gMK Y_J4_tableSizeFor := ⟨q628, q105, by decide⟩
def Y_J4_put : gM := (104, yJ4_put, cJ4_put, 3, (some (.object "java/lang/Object")))
theorem mk_J4_put : gMK Y_J4_put := ⟨q910, q105, by decide⟩
def Y_J4_hash : gM := (104, yJ4_hash, cJ4_hash, 2, (some (.int)))
theorem mk_J4_hash : gMK Y_J4_hash := ⟨q913, q105, by decide⟩
def Y_J4_putVal : gM := (104, yJ4_putVal, cJ4_putVal, 13, (some (.object "java/lang/Object")))
theorem mk_J4_putVal : gMK Y_J4_putVal := ⟨q1010, q105, by decide⟩
def Y_J4_resize : gM := (104, yJ4_resize, cJ4_resize, 14, (some (.array (.object "java/util/HashMap$Node"))))
theorem mk_J4_resize : gMK Y_J4_resize := ⟨q1015, q105, by decide⟩
def Y_J4_treeifyBin : gM := (104, yJ4_treeifyBin, cJ4_treeifyBin, 9, none)
theorem mk_J4_treeifyBin : gMK Y_J4_treeifyBin := ⟨q1476, q105, by decide⟩
def Y_J4_containsKey : gM := (104, yJ4_containsKey, cJ4_containsKey, 2, (some (.boolean)))
theorem mk_J4_containsKey : gMK Y_J4_containsKey := ⟨q1686, q105, by decide⟩
def Y_J4_getNode : gM := (104, yJ4_getNode, cJ4_getNode, 8, (some (.object "java/util/HashMap$Node")))
theorem mk_J4_getNode : gMK Y_J4_getNode := ⟨q1691, q105, by decide⟩
def Y_J4_size : gM := (104, yJ4_size, cJ4_size, 1, (some (.int)))
theorem mk_J4_size : gMK Y_J4_size := ⟨q1787, q105, by decide⟩
def Y_J4_remove : gM := (104, yJ4_remove, cJ4_remove, 3, (some (.object "java/lang/Object")))
theorem mk_J4_remove : gMK Y_J4_remove := ⟨q2201, q105, by decide⟩
def Y_J4_removeNode : gM := (104, yJ4_removeNode, cJ4_removeNode, 14, (some (.object "java/util/HashMap$Node")))
theorem mk_J4_removeNode : gMK Y_J4_removeNode := ⟨q2206, q105, by decide⟩
def Y_J4_clear : gM := (104, yJ4_clear, cJ4_clear, 3, none)
theorem mk_J4_clear : gMK Y_J4_clear := ⟨q2234, q105, by decide⟩
def Y_J5_init : gM := (105, yJ5_init, cJ5_init, 1, none)
theorem mk_J5_init : gMK Y_J5_init := ⟨q220, q106, by decide⟩
def Y_J5_init_2 : gM := (105, yJ5_init_2, cJ5_init_2, 3, none)
theorem mk_J5_init_2 : gMK Y_J5_init_2 := ⟨q618, q106, by decide⟩
def Y_J5_keySet : gM := (105, yJ5_keySet, cJ5_keySet, 1, (some (.object "java/util/Set")))
theorem mk_J5_keySet : gMK Y_J5_keySet := ⟨q800, q106, by decide⟩
def Y_J5_sequencedKeySet : gM := (105, yJ5_sequencedKeySet, cJ5_sequencedKeySet, 3, (some (.object "java/util/SequencedSet")))
theorem mk_J5_sequencedKeySet : gMK Y_J5_sequencedKeySet := ⟨q804, q106, by decide⟩
def Y_J5_newNode : gM := (105, yJ5_newNode, cJ5_newNode, 6, (some (.object "java/util/HashMap$Node")))
theorem mk_J5_newNode : gMK Y_J5_newNode := ⟨q1383, q106, by decide⟩
def Y_J5_linkNodeAtEnd : gM := (105, yJ5_linkNodeAtEnd, cJ5_linkNodeAtEnd, 3, none)
theorem mk_J5_linkNodeAtEnd : gMK Y_J5_linkNodeAtEnd := ⟨q1387, q106, by decide⟩
def Y_J5_afterNodeAccess : gM := (105, yJ5_afterNodeAccess, cJ5_afterNodeAccess, 7, none)
theorem mk_J5_afterNodeAccess : gMK Y_J5_afterNodeAccess := ⟨q1490, q106, by decide⟩
def Y_J5_afterNodeInsertion : gM := (105, yJ5_afterNodeInsertion, cJ5_afterNodeInsertion, 4, none)
theorem mk_J5_afterNodeInsertion : gMK Y_J5_afterNodeInsertion := ⟨q1497, q106, by decide⟩
def Y_J5_removeEldestEntry : gM := (105, yJ5_removeEldestEntry, cJ5_removeEldestEntry, 2, (some (.boolean)))
theorem mk_J5_removeEldestEntry : gMK Y_J5_removeEldestEntry := ⟨q1501, q106, by decide⟩
def Y_J5_afterNodeRemoval : gM := (105, yJ5_afterNodeRemoval, cJ5_afterNodeRemoval, 5, none)
theorem mk_J5_afterNodeRemoval : gMK Y_J5_afterNodeRemoval := ⟨q2219, q106, by decide⟩
def Y_J5_clear : gM := (105, yJ5_clear, cJ5_clear, 1, none)
theorem mk_J5_clear : gMK Y_J5_clear := ⟨q2232, q106, by decide⟩
def Y_J5_get : gM := (105, yJ5_get, cJ5_get, 3, (some (.object "java/lang/Object")))
theorem mk_J5_get : gMK Y_J5_get := ⟨q2511, q106, by decide⟩
def Y_J6_init : gM := (106, yJ6_init, cJ6_init, 1, none)
theorem mk_J6_init : gMK Y_J6_init := ⟨q312, q107, by decide⟩
def Y_J6_isEmpty : gM := (106, yJ6_isEmpty, cJ6_isEmpty, 1, (some (.boolean)))
theorem mk_J6_isEmpty : gMK Y_J6_isEmpty := ⟨q502, q107, by decide⟩
def Y_J6_inc : gM := (106, yJ6_inc, cJ6_inc, 2, (some (.int)))
theorem mk_J6_inc : gMK Y_J6_inc := ⟨q523, q107, by decide⟩
def Y_J6_pollFirst : gM := (106, yJ6_pollFirst, cJ6_pollFirst, 4, (some (.object "java/lang/Object")))
theorem mk_J6_pollFirst : gMK Y_J6_pollFirst := ⟨q574, q107, by decide⟩
def Y_J6_elementAt : gM := (106, yJ6_elementAt, cJ6_elementAt, 2, (some (.object "java/lang/Object")))
theorem mk_J6_elementAt : gMK Y_J6_elementAt := ⟨q577, q107, by decide⟩
def Y_J6_size : gM := (106, yJ6_size, cJ6_size, 1, (some (.int)))
theorem mk_J6_size : gMK Y_J6_size := ⟨q706, q107, by decide⟩
def Y_J6_sub : gM := (106, yJ6_sub, cJ6_sub, 3, (some (.int)))
theorem mk_J6_sub : gMK Y_J6_sub := ⟨q709, q107, by decide⟩
def Y_J6_addLast : gM := (106, yJ6_addLast, cJ6_addLast, 3, none)
theorem mk_J6_addLast : gMK Y_J6_addLast := ⟨q1631, q107, by decide⟩
def Y_J6_removeFirst : gM := (106, yJ6_removeFirst, cJ6_removeFirst, 2, (some (.object "java/lang/Object")))
theorem mk_J6_removeFirst : gMK Y_J6_removeFirst := ⟨q1648, q107, by decide⟩
def Y_J6_removeLast : gM := (106, yJ6_removeLast, cJ6_removeLast, 2, (some (.object "java/lang/Object")))
theorem mk_J6_removeLast : gMK Y_J6_removeLast := ⟨q2533, q107, by decide⟩
def Y_J6_pollLast : gM := (106, yJ6_pollLast, cJ6_pollLast, 4, (some (.object "java/lang/Object")))
theorem mk_J6_pollLast : gMK Y_J6_pollLast := ⟨q2537, q107, by decide⟩
def Y_J6_dec : gM := (106, yJ6_dec, cJ6_dec, 2, (some (.int)))
theorem mk_J6_dec : gMK Y_J6_dec := ⟨q2540, q107, by decide⟩
def Y_J7_init : gM := (107, yJ7_init, cJ7_init, 2, none)
theorem mk_J7_init : gMK Y_J7_init := ⟨q335, q108, by decide⟩
def Y_J7_isLatin1 : gM := (107, yJ7_isLatin1, cJ7_isLatin1, 1, (some (.boolean)))
theorem mk_J7_isLatin1 : gMK Y_J7_isLatin1 := ⟨q1340, q108, by decide⟩
def Y_J7_length : gM := (107, yJ7_length, cJ7_length, 1, (some (.int)))
theorem mk_J7_length : gMK Y_J7_length := ⟨q2523, q108, by decide⟩
def Y_J7_append : gM := (107, yJ7_append, cJ7_append, 2, (some (.object "java/lang/AbstractStringBuilder")))
theorem mk_J7_append : gMK Y_J7_append := ⟨q2553, q108, by decide⟩
def Y_J7_ensureCapacityInternal : gM := (107, yJ7_ensureCapacityInternal, cJ7_ensureCapacityInternal, 3, none)
theorem mk_J7_ensureCapacityInternal : gMK Y_J7_ensureCapacityInternal := ⟨q2557, q108, by decide⟩
def Y_J7_newCapacity : gM := (107, yJ7_newCapacity, cJ7_newCapacity, 6, (some (.int)))
theorem mk_J7_newCapacity : gMK Y_J7_newCapacity := ⟨q2561, q108, by decide⟩
def Y_J7_setLength : gM := (107, yJ7_setLength, cJ7_setLength, 2, none)
theorem mk_J7_setLength : gMK Y_J7_setLength := ⟨q2617, q108, by decide⟩
def Y_J7_charAt : gM := (107, yJ7_charAt, cJ7_charAt, 5, (some (.char)))
theorem mk_J7_charAt : gMK Y_J7_charAt := ⟨q2682, q108, by decide⟩
def Y_J8_init : gM := (108, yJ8_init, cJ8_init, 1, none)
theorem mk_J8_init : gMK Y_J8_init := ⟨q332, q109, by decide⟩
def Y_J8_length : gM := (108, yJ8_length, cJ8_length, 1, (some (.int)))
theorem mk_J8_length : gMK Y_J8_length := ⟨q2520, q109, by decide⟩
def Y_J8_append : gM := (108, yJ8_append, cJ8_append, 2, (some (.object "java/lang/StringBuilder")))
theorem mk_J8_append : gMK Y_J8_append := ⟨q2550, q109, by decide⟩
def Y_J8_setLength : gM := (108, yJ8_setLength, cJ8_setLength, 2, none)
theorem mk_J8_setLength : gMK Y_J8_setLength := ⟨q2614, q109, by decide⟩
def Y_J8_charAt : gM := (108, yJ8_charAt, cJ8_charAt, 2, (some (.char)))
theorem mk_J8_charAt : gMK Y_J8_charAt := ⟨q2679, q109, by decide⟩
def Y_J9_isLatin1 : gM := (109, yJ9_isLatin1, cJ9_isLatin1, 1, (some (.boolean)))
theorem mk_J9_isLatin1 : gMK Y_J9_isLatin1 := ⟨q943, q110, by decide⟩
def Y_J9_coder : gM := (109, yJ9_coder, cJ9_coder, 1, (some (.byte)))
theorem mk_J9_coder : gMK Y_J9_coder := ⟨q1186, q110, by decide⟩
def Y_J9_checkIndex : gM := (109, yJ9_checkIndex, cJ9_checkIndex, 2, none)
theorem mk_J9_checkIndex : gMK Y_J9_checkIndex := ⟨q2605, q110, by decide⟩
def Y_J9_indexOf : gM := (109, yJ9_indexOf, cJ9_indexOf, 2, (some (.int)))
theorem mk_J9_indexOf : gMK Y_J9_indexOf := ⟨q2689, q110, by decide⟩
def Y_J9_indexOf_2 : gM := (109, yJ9_indexOf_2, cJ9_indexOf_2, 3, (some (.int)))
theorem mk_J9_indexOf_2 : gMK Y_J9_indexOf_2 := ⟨q2693, q110, by decide⟩
def Y_J9_length : gM := (109, yJ9_length, cJ9_length, 1, (some (.int)))
theorem mk_J9_length : gMK Y_J9_length := ⟨q2697, q110, by decide⟩
def Y_J11_init : gM := (111, yJ11_init, cJ11_init, 2, none)
theorem mk_J11_init : gMK Y_J11_init := ⟨q450, q114, by decide⟩
def Y_J11_hasNext : gM := (111, yJ11_hasNext, cJ11_hasNext, 1, (some (.boolean)))
theorem mk_J11_hasNext : gMK Y_J11_hasNext := ⟨q480, q114, by decide⟩
def Y_J11_next : gM := (111, yJ11_next, cJ11_next, 3, (some (.object "java/lang/Object")))
theorem mk_J11_next : gMK Y_J11_next := ⟨q528, q114, by decide⟩
def Y_J11_checkForComodification : gM := (111, yJ11_checkForComodification, cJ11_checkForComodification, 1, none)
theorem mk_J11_checkForComodification : gMK Y_J11_checkForComodification := ⟨q532, q114, by decide⟩
def Y_J12_successor : gM := (112, yJ12_successor, cJ12_successor, 3, (some (.object "java/util/TreeMap$Entry")))
theorem mk_J12_successor : gMK Y_J12_successor := ⟨q592, q115, by decide⟩
def Y_J12_getFirstEntry : gM := (112, yJ12_getFirstEntry, cJ12_getFirstEntry, 2, (some (.object "java/util/TreeMap$Entry")))
theorem mk_J12_getFirstEntry : gMK Y_J12_getFirstEntry := ⟨q872, q115, by decide⟩
def Y_J12_init : gM := (112, yJ12_init, cJ12_init, 1, none)
theorem mk_J12_init : gMK Y_J12_init := ⟨q1900, q115, by decide⟩
def Y_J12_put : gM := (112, yJ12_put, cJ12_put, 3, (some (.object "java/lang/Object")))
theorem mk_J12_put : gMK Y_J12_put := ⟨q1947, q115, by decide⟩
def Y_J12_put_2 : gM := (112, yJ12_put_2, cJ12_put_2, 10, (some (.object "java/lang/Object")))
theorem mk_J12_put_2 : gMK Y_J12_put_2 := ⟨q1951, q115, by decide⟩
def Y_J12_addEntryToEmptyMap : gM := (112, yJ12_addEntryToEmptyMap, cJ12_addEntryToEmptyMap, 3, none)
theorem mk_J12_addEntryToEmptyMap : gMK Y_J12_addEntryToEmptyMap := ⟨q1955, q115, by decide⟩
def Y_J12_compare : gM := (112, yJ12_compare, cJ12_compare, 3, (some (.int)))
theorem mk_J12_compare : gMK Y_J12_compare := ⟨q1959, q115, by decide⟩
def Y_J12_addEntry : gM := (112, yJ12_addEntry, cJ12_addEntry, 6, none)
theorem mk_J12_addEntry : gMK Y_J12_addEntry := ⟨q2025, q115, by decide⟩
def Y_J12_fixAfterInsertion : gM := (112, yJ12_fixAfterInsertion, cJ12_fixAfterInsertion, 3, none)
theorem mk_J12_fixAfterInsertion : gMK Y_J12_fixAfterInsertion := ⟨q2029, q115, by decide⟩
def Y_J12_parentOf : gM := (112, yJ12_parentOf, cJ12_parentOf, 1, (some (.object "java/util/TreeMap$Entry")))
theorem mk_J12_parentOf : gMK Y_J12_parentOf := ⟨q2032, q115, by decide⟩
def Y_J12_leftOf : gM := (112, yJ12_leftOf, cJ12_leftOf, 1, (some (.object "java/util/TreeMap$Entry")))
theorem mk_J12_leftOf : gMK Y_J12_leftOf := ⟨q2035, q115, by decide⟩
def Y_J12_rightOf : gM := (112, yJ12_rightOf, cJ12_rightOf, 1, (some (.object "java/util/TreeMap$Entry")))
theorem mk_J12_rightOf : gMK Y_J12_rightOf := ⟨q2038, q115, by decide⟩
def Y_J12_colorOf : gM := (112, yJ12_colorOf, cJ12_colorOf, 1, (some (.boolean)))
theorem mk_J12_colorOf : gMK Y_J12_colorOf := ⟨q2041, q115, by decide⟩
def Y_J12_setColor : gM := (112, yJ12_setColor, cJ12_setColor, 2, none)
theorem mk_J12_setColor : gMK Y_J12_setColor := ⟨q2044, q115, by decide⟩
def Y_J12_rotateLeft : gM := (112, yJ12_rotateLeft, cJ12_rotateLeft, 3, none)
theorem mk_J12_rotateLeft : gMK Y_J12_rotateLeft := ⟨q2048, q115, by decide⟩
def Y_J12_rotateRight : gM := (112, yJ12_rotateRight, cJ12_rotateRight, 3, none)
theorem mk_J12_rotateRight : gMK Y_J12_rotateRight := ⟨q2052, q115, by decide⟩
def Y_J12_values : gM := (112, yJ12_values, cJ12_values, 2, (some (.object "java/util/Collection")))
theorem mk_J12_values : gMK Y_J12_values := ⟨q2057, q115, by decide⟩
def Y_J13_init : gM := (113, yJ13_init, cJ13_init, 1, none)
theorem mk_J13_init : gMK Y_J13_init := ⟨q613, q117, by decide⟩
def Y_J14_init : gM := (114, yJ14_init, cJ14_init, 4, none)
theorem mk_J14_init : gMK Y_J14_init := ⟨q610, q118, by decide⟩
def Y_J14_iterator : gM := (114, yJ14_iterator, cJ14_iterator, 1, (some (.object "java/util/Iterator")))
theorem mk_J14_iterator : gMK Y_J14_iterator := ⟨q794, q118, by decide⟩
def Y_J14_add : gM := (114, yJ14_add, cJ14_add, 2, (some (.boolean)))
theorem mk_J14_add : gMK Y_J14_add := ⟨q903, q118, by decide⟩
def Y_J14_size : gM := (114, yJ14_size, cJ14_size, 1, (some (.int)))
theorem mk_J14_size : gMK Y_J14_size := ⟨q1782, q118, by decide⟩
def Y_J14_contains : gM := (114, yJ14_contains, cJ14_contains, 2, (some (.boolean)))
theorem mk_J14_contains : gMK Y_J14_contains := ⟨q1841, q118, by decide⟩
def Y_J14_clear : gM := (114, yJ14_clear, cJ14_clear, 1, none)
theorem mk_J14_clear : gMK Y_J14_clear := ⟨q2226, q118, by decide⟩
def Y_J15_init : gM := (115, yJ15_init, cJ15_init, 1, none)
theorem mk_J15_init : gMK Y_J15_init := ⟨q606, q119, by decide⟩
def Y_J16_init : gM := (116, yJ16_init, cJ16_init, 1, none)
theorem mk_J16_init : gMK Y_J16_init := ⟨q1938, q120, by decide⟩
def Y_J17_isNaN : gM := (117, yJ17_isNaN, cJ17_isNaN, 1, (some (.boolean)))
theorem mk_J17_isNaN : gMK Y_J17_isNaN := ⟨q625, q121, by decide⟩
def Y_J18_numberOfLeadingZeros : gM := (118, yJ18_numberOfLeadingZeros, cJ18_numberOfLeadingZeros, 2, (some (.int)))
theorem mk_J18_numberOfLeadingZeros : gMK Y_J18_numberOfLeadingZeros := ⟨q631, q122, by decide⟩
def Y_J18_compare : gM := (118, yJ18_compare, cJ18_compare, 2, (some (.int)))
theorem mk_J18_compare : gMK Y_J18_compare := ⟨q1159, q122, by decide⟩
def Y_J18_intValue : gM := (118, yJ18_intValue, cJ18_intValue, 1, (some (.int)))
theorem mk_J18_intValue : gMK Y_J18_intValue := ⟨q1412, q122, by decide⟩
def Y_J18_valueOf : gM := (118, yJ18_valueOf, cJ18_valueOf, 1, (some (.object "java/lang/Integer")))
theorem mk_J18_valueOf : gMK Y_J18_valueOf := ⟨q1927, q122, by decide⟩
def Y_J18_init : gM := (118, yJ18_init, cJ18_init, 2, none)
theorem mk_J18_init : gMK Y_J18_init := ⟨q1935, q122, by decide⟩
def Y_J18_bitCount : gM := (118, yJ18_bitCount, cJ18_bitCount, 1, (some (.int)))
theorem mk_J18_bitCount : gMK Y_J18_bitCount := ⟨q2149, q122, by decide⟩
def Y_J22_hasNext : gM := (122, yJ22_hasNext, cJ22_hasNext, 1, (some (.boolean)))
theorem mk_J22_hasNext : gMK Y_J22_hasNext := ⟨q492, q126, by decide⟩
def Y_J22_nextNode : gM := (122, yJ22_nextNode, cJ22_nextNode, 2, (some (.object "java/util/LinkedHashMap$Entry")))
theorem mk_J22_nextNode : gMK Y_J22_nextNode := ⟨q554, q126, by decide⟩
def Y_J22_init : gM := (122, yJ22_init, cJ22_init, 3, none)
theorem mk_J22_init : gMK Y_J22_init := ⟨q771, q126, by decide⟩
def Y_J23_next : gM := (123, yJ23_next, cJ23_next, 1, (some (.object "java/lang/Object")))
theorem mk_J23_next : gMK Y_J23_next := ⟨q548, q127, by decide⟩
def Y_J23_init : gM := (123, yJ23_init, cJ23_init, 3, none)
theorem mk_J23_init : gMK Y_J23_init := ⟨q768, q127, by decide⟩
def Y_J25_iterator : gM := (125, yJ25_iterator, cJ25_iterator, 1, (some (.object "java/util/Iterator")))
theorem mk_J25_iterator : gMK Y_J25_iterator := ⟨q763, q129, by decide⟩
def Y_J25_init : gM := (125, yJ25_init, cJ25_init, 3, none)
theorem mk_J25_init : gMK Y_J25_init := ⟨q809, q129, by decide⟩
def Y_J27_hasNext : gM := (127, yJ27_hasNext, cJ27_hasNext, 1, (some (.boolean)))
theorem mk_J27_hasNext : gMK Y_J27_hasNext := ⟨q508, q131, by decide⟩
def Y_J27_nextEntry : gM := (127, yJ27_nextEntry, cJ27_nextEntry, 2, (some (.object "java/util/TreeMap$Entry")))
theorem mk_J27_nextEntry : gMK Y_J27_nextEntry := ⟨q589, q131, by decide⟩
def Y_J27_init : gM := (127, yJ27_init, cJ27_init, 3, none)
theorem mk_J27_init : gMK Y_J27_init := ⟨q878, q131, by decide⟩
def Y_J28_next : gM := (128, yJ28_next, cJ28_next, 1, (some (.object "java/lang/Object")))
theorem mk_J28_next : gMK Y_J28_next := ⟨q583, q132, by decide⟩
def Y_J28_init : gM := (128, yJ28_init, cJ28_init, 3, none)
theorem mk_J28_init : gMK Y_J28_init := ⟨q875, q132, by decide⟩
def Y_J29_canEncode : gM := (129, yJ29_canEncode, cJ29_canEncode, 1, (some (.boolean)))
theorem mk_J29_canEncode : gMK Y_J29_canEncode := ⟨q2574, q133, by decide⟩
def Y_J29_indexOf : gM := (129, yJ29_indexOf, cJ29_indexOf, 4, (some (.int)))
theorem mk_J29_indexOf : gMK Y_J29_indexOf := ⟨q2700, q133, by decide⟩
def Y_J29_canEncode_2 : gM := (129, yJ29_canEncode_2, cJ29_canEncode_2, 1, (some (.boolean)))
theorem mk_J29_canEncode_2 : gMK Y_J29_canEncode_2 := ⟨q2703, q133, by decide⟩
def Y_J29_indexOfChar : gM := (129, yJ29_indexOfChar, cJ29_indexOfChar, 6, (some (.int)))
theorem mk_J29_indexOfChar : gMK Y_J29_indexOfChar := ⟨q2707, q133, by decide⟩
def Y_J30_newLength : gM := (130, yJ30_newLength, cJ30_newLength, 4, (some (.int)))
theorem mk_J30_newLength : gMK Y_J30_newLength := ⟨q1525, q134, by decide⟩
def Y_J30_hugeLength : gM := (130, yJ30_hugeLength, cJ30_hugeLength, 3, (some (.int)))
theorem mk_J30_hugeLength : gMK Y_J30_hugeLength := ⟨q1532, q134, by decide⟩
def Y_J31_getKey : gM := (131, yJ31_getKey, cJ31_getKey, 1, (some (.object "java/lang/Object")))
theorem mk_J31_getKey : gMK Y_J31_getKey := ⟨q561, q135, by decide⟩
def Y_J31_init : gM := (131, yJ31_init, cJ31_init, 5, none)
theorem mk_J31_init : gMK Y_J31_init := ⟨q1043, q135, by decide⟩
def Y_J32_init : gM := (132, yJ32_init, cJ32_init, 5, none)
theorem mk_J32_init : gMK Y_J32_init := ⟨q1040, q136, by decide⟩
def Y_J33_min : gM := (133, yJ33_min, cJ33_min, 2, (some (.int)))
theorem mk_J33_min : gMK Y_J33_min := ⟨q1195, q137, by decide⟩
def Y_J33_max : gM := (133, yJ33_max, cJ33_max, 2, (some (.int)))
theorem mk_J33_max : gMK Y_J33_max := ⟨q1528, q137, by decide⟩
def Y_J36_checkIndex : gM := (136, yJ36_checkIndex, cJ36_checkIndex, 3, (some (.int)))
theorem mk_J36_checkIndex : gMK Y_J36_checkIndex := ⟨q1760, q141, by decide⟩
def Y_J38_copyOf : gM := (138, yJ38_copyOf, cJ38_copyOf, 2, (some (.array (.object "java/lang/Object"))))
theorem mk_J38_copyOf : gMK Y_J38_copyOf := ⟨q1535, q143, by decide⟩
def Y_J38_copyOf_2 : gM := (138, yJ38_copyOf_2, cJ38_copyOf_2, 4, (some (.array (.object "java/lang/Object"))))
theorem mk_J38_copyOf_2 : gMK Y_J38_copyOf_2 := ⟨q1539, q143, by decide⟩
def Y_J38_copyOf_3 : gM := (138, yJ38_copyOf_3, cJ38_copyOf_3, 3, (some (.array .byte)))
theorem mk_J38_copyOf_3 : gMK Y_J38_copyOf_3 := ⟨q2566, q143, by decide⟩
def Y_J39_checkIndex : gM := (139, yJ39_checkIndex, cJ39_checkIndex, 2, (some (.int)))
theorem mk_J39_checkIndex : gMK Y_J39_checkIndex := ⟨q1757, q147, by decide⟩
def Y_J39_requireNonNull : gM := (139, yJ39_requireNonNull, cJ39_requireNonNull, 1, (some (.object "java/lang/Object")))
theorem mk_J39_requireNonNull : gMK Y_J39_requireNonNull := ⟨q2021, q147, by decide⟩
def Y_J40_init : gM := (140, yJ40_init, cJ40_init, 4, none)
theorem mk_J40_init : gMK Y_J40_init := ⟨q1993, q149, by decide⟩
def Y_J41_iterator : gM := (141, yJ41_iterator, cJ41_iterator, 1, (some (.object "java/util/Iterator")))
theorem mk_J41_iterator : gMK Y_J41_iterator := ⟨q866, q150, by decide⟩
def Y_J41_init : gM := (141, yJ41_init, cJ41_init, 2, none)
theorem mk_J41_init : gMK Y_J41_init := ⟨q2062, q150, by decide⟩
def Y_J42_init : gM := (142, yJ42_init, cJ42_init, 1, none)
theorem mk_J42_init : gMK Y_J42_init := ⟨q2276, q153, by decide⟩
def Y_J43_init : gM := (143, yJ43_init, cJ43_init, 3, none)
theorem mk_J43_init : gMK Y_J43_init := ⟨q2273, q154, by decide⟩
def Y_J43_add : gM := (143, yJ43_add, cJ43_add, 2, (some (.boolean)))
theorem mk_J43_add : gMK Y_J43_add := ⟨q2306, q154, by decide⟩
def Y_J43_offer : gM := (143, yJ43_offer, cJ43_offer, 3, (some (.boolean)))
theorem mk_J43_offer : gMK Y_J43_offer := ⟨q2310, q154, by decide⟩
def Y_J43_grow : gM := (143, yJ43_grow, cJ43_grow, 4, none)
theorem mk_J43_grow : gMK Y_J43_grow := ⟨q2314, q154, by decide⟩
def Y_J43_siftUp : gM := (143, yJ43_siftUp, cJ43_siftUp, 3, none)
theorem mk_J43_siftUp : gMK Y_J43_siftUp := ⟨q2320, q154, by decide⟩
def Y_J43_siftUpUsingComparator : gM := (143, yJ43_siftUpUsingComparator, cJ43_siftUpUsingComparator, 6, none)
theorem mk_J43_siftUpUsingComparator : gMK Y_J43_siftUpUsingComparator := ⟨q2323, q154, by decide⟩
def Y_J43_poll : gM := (143, yJ43_poll, cJ43_poll, 6, (some (.object "java/lang/Object")))
theorem mk_J43_poll : gMK Y_J43_poll := ⟨q2339, q154, by decide⟩
def Y_J43_siftDownUsingComparator : gM := (143, yJ43_siftDownUsingComparator, cJ43_siftDownUsingComparator, 9, none)
theorem mk_J43_siftDownUsingComparator : gMK Y_J43_siftDownUsingComparator := ⟨q2345, q154, by decide⟩
def Y_J45_init : gM := (145, yJ45_init, cJ45_init, 1, none)
theorem mk_J45_init : gMK Y_J45_init := ⟨q164, q3167, by decide⟩
def Y_law : gM := (99, ⟨"WireDigsLaw", "law", "([I)Z"⟩, code, 4, some .boolean)
def onm : Nat → String := fun o => match o with
  | 0 => RX0
  | 1 => RX1
  | 2 => RX2
  | 3 => RX3
  | 4 => RX4
  | 5 => RX5
  | 6 => RX6
  | 7 => RX7
  | 8 => RX8
  | 9 => RX9
  | 10 => RX10
  | 100 => RJ0
  | 101 => RJ1
  | 102 => RJ2
  | 103 => RJ3
  | 104 => RJ4
  | 105 => RJ5
  | 106 => RJ6
  | 107 => RJ7
  | 108 => RJ8
  | 109 => RJ9
  | 111 => RJ11
  | 112 => RJ12
  | 113 => RJ13
  | 114 => RJ14
  | 115 => RJ15
  | 116 => RJ16
  | 117 => RJ17
  | 118 => RJ18
  | 122 => RJ22
  | 123 => RJ23
  | 125 => RJ25
  | 127 => RJ27
  | 128 => RJ28
  | 129 => RJ29
  | 130 => RJ30
  | 131 => RJ31
  | 132 => RJ32
  | 133 => RJ33
  | 136 => RJ36
  | 138 => RJ38
  | 139 => RJ39
  | 140 => RJ40
  | 141 => RJ41
  | 142 => RJ42
  | 143 => RJ43
  | 145 => RJ45
  | 99 => "WireDigsLaw"
  | _ => ""
def mth : Nat → gM := fun i => match i with
  | 0 => Y_X0_init
  | 1 => Y_X0_set
  | 2 => Y_X0_isSetting
  | 3 => Y_X0_isBetween
  | 4 => Y_X0_change
  | 5 => Y_X0_block
  | 6 => Y_X0_isPlace
  | 7 => Y_X0_isTaken
  | 8 => Y_X0_over
  | 9 => Y_X0_net
  | 10 => Y_X0_arePins
  | 11 => Y_X0_isOpen
  | 12 => Y_X0_give
  | 13 => Y_X0_netOf
  | 14 => Y_X0_viasOf
  | 15 => Y_X0_cellOf
  | 16 => Y_X0_wireAt
  | 17 => Y_X0_lay
  | 18 => Y_X0_act
  | 19 => Y_X0_refuses
  | 20 => Y_X0_findOn
  | 21 => Y_X0_stepFrom
  | 22 => Y_X0_refusesDig
  | 23 => Y_X0_make
  | 24 => Y_X0_dig
  | 25 => Y_X0_rip
  | 26 => Y_X0_appeal
  | 27 => Y_X0_hear
  | 28 => Y_X0_pass
  | 29 => Y_X0_cost
  | 30 => Y_X0_asked
  | 31 => Y_X0_price
  | 32 => Y_X0_victims
  | 33 => Y_X0_routeAt
  | 34 => Y_X0_bestOrder
  | 35 => Y_X0_waiting
  | 36 => Y_X0_layOrder
  | 37 => Y_X0_has
  | 38 => Y_X0_joinedBy
  | 39 => Y_X0_claimOf
  | 40 => Y_X0_docketAt
  | 41 => Y_X0_wronged
  | 42 => Y_X0_count
  | 43 => Y_X0_freeCells
  | 44 => Y_X0_sum
  | 45 => Y_X0_undo
  | 46 => Y_X0_type
  | 47 => Y_X0_clearText
  | 48 => Y_X0_fault
  | 49 => Y_X0_play
  | 50 => Y_X1_init
  | 51 => Y_X1_init_2
  | 52 => Y_X1_own
  | 53 => Y_X1_pinOwner
  | 54 => Y_X1_blockedMany
  | 55 => Y_X1_layOwners
  | 56 => Y_X1_priceOf
  | 57 => Y_X1_canAppeal
  | 58 => Y_X1_appeals
  | 59 => Y_X1_makeLay
  | 60 => Y_X1_takeRoute
  | 61 => Y_X1_makeDig
  | 62 => Y_X1_loseWire
  | 63 => Y_X1_makeRip
  | 64 => Y_X1_makeAppeal
  | 65 => Y_X1_makeHear
  | 66 => Y_X1_docket
  | 67 => Y_X1_areFree
  | 68 => Y_X1_isFree
  | 69 => Y_X1_wrongedNets
  | 70 => Y_X1_joinedMany
  | 71 => Y_X1_purses
  | 72 => Y_X1_crossings
  | 73 => Y_X2_init
  | 74 => Y_X2_add
  | 75 => Y_X2_isFull
  | 76 => Y_X2_size
  | 77 => Y_X2_isIn
  | 78 => Y_X2_get
  | 79 => Y_X3_init
  | 80 => Y_X3_begin
  | 81 => Y_X3_find
  | 82 => Y_X3_join
  | 83 => Y_X3_goes
  | 84 => Y_X3_layFar
  | 85 => Y_X3_leastFrom
  | 86 => Y_X3_entry
  | 87 => Y_X3_neighbor
  | 88 => Y_X3_costBy
  | 89 => Y_X3_stepCost
  | 90 => Y_X3_take
  | 91 => Y_X3_nextOf
  | 92 => Y_X3_victimSet
  | 93 => Y_X3_settle
  | 94 => Y_X4_init
  | 95 => Y_X4_undo
  | 96 => Y_X4_set
  | 97 => Y_X4_in
  | 98 => Y_X4_least
  | 99 => Y_X4_most
  | 100 => Y_X4_copy
  | 101 => Y_X4_recorded
  | 102 => Y_X4_block
  | 103 => Y_X4_isFree
  | 104 => Y_X4_blockedMany
  | 105 => Y_X4_net
  | 106 => Y_X4_give
  | 107 => Y_X4_isNet
  | 108 => Y_X4_of
  | 109 => Y_X4_adds
  | 110 => Y_X4_netOf
  | 111 => Y_X4_wireMany
  | 112 => Y_X4_viaMany
  | 113 => Y_X4_cellOf
  | 114 => Y_X4_wireAt
  | 115 => Y_X4_lay
  | 116 => Y_X4_lays
  | 117 => Y_X4_isJoined
  | 118 => Y_X4_routes
  | 119 => Y_X4_joinsPin
  | 120 => Y_X4_paths
  | 121 => Y_X4_measures
  | 122 => Y_X4_neighbour
  | 123 => Y_X4_into
  | 124 => Y_X4_nextOf
  | 125 => Y_X4_wires
  | 126 => Y_X4_dig
  | 127 => Y_X4_digsFor
  | 128 => Y_X4_duesOf
  | 129 => Y_X4_due
  | 130 => Y_X4_through
  | 131 => Y_X4_victimsOf
  | 132 => Y_X4_bits
  | 133 => Y_X4_pays
  | 134 => Y_X4_claims
  | 135 => Y_X4_loses
  | 136 => Y_X4_rip
  | 137 => Y_X4_rips
  | 138 => Y_X4_appeal
  | 139 => Y_X4_appeals
  | 140 => Y_X4_isClaim
  | 141 => Y_X4_claimAt
  | 142 => Y_X4_since
  | 143 => Y_X4_appealMany
  | 144 => Y_X4_hear
  | 145 => Y_X4_hears
  | 146 => Y_X4_heard
  | 147 => Y_X4_loss
  | 148 => Y_X4_comesBack
  | 149 => Y_X4_was
  | 150 => Y_X4_pass
  | 151 => Y_X4_passes
  | 152 => Y_X4_cost
  | 153 => Y_X4_refused
  | 154 => Y_X4_price
  | 155 => Y_X4_victims
  | 156 => Y_X4_routeAt
  | 157 => Y_X4_bestOrder
  | 158 => Y_X4_ordered
  | 159 => Y_X4_claimOf
  | 160 => Y_X4_docketAt
  | 161 => Y_X4_wronged
  | 162 => Y_X4_count
  | 163 => Y_X4_overNets
  | 164 => Y_X4_cellsThat
  | 165 => Y_X4_crossings
  | 166 => Y_X4_type
  | 167 => Y_X4_clearText
  | 168 => Y_X4_fault
  | 169 => Y_X4_tries
  | 170 => Y_X4_order
  | 171 => Y_X4_here
  | 172 => Y_X4_number
  | 173 => Y_X4_back
  | 174 => Y_X4_play
  | 175 => Y_X5_init
  | 176 => Y_X5_init_2
  | 177 => Y_X5_takeWire
  | 178 => Y_X5_hasPin
  | 179 => Y_X5_many
  | 180 => Y_X5_vias
  | 181 => Y_X5_pay
  | 182 => Y_X6_init
  | 183 => Y_X6_init_2
  | 184 => Y_X6_loss
  | 185 => Y_X6_many
  | 186 => Y_X7_hashCode
  | 187 => Y_X7_compareTo
  | 188 => Y_X7_compareTo_2
  | 189 => Y_X7_equals
  | 190 => Y_X7_init
  | 191 => Y_X7_above
  | 192 => Y_X7_place
  | 193 => Y_X8_init
  | 194 => Y_X8_add
  | 195 => Y_X8_next
  | 196 => Y_X9_compare
  | 197 => Y_X9_compare_2
  | 198 => Y_X9_init
  | 199 => Y_X10_init
  | 200 => Y_X10_isWell
  | 201 => Y_X10_why
  | 202 => Y_X10_number
  | 203 => Y_X10_isDigit
  | 204 => Y_X10_ends
  | 205 => Y_X10_isThere
  | 206 => Y_X10_can
  | 207 => Y_J0_init
  | 208 => Y_J1_init
  | 209 => Y_J2_init
  | 210 => Y_J2_iterator
  | 211 => Y_J2_add
  | 212 => Y_J2_add_2
  | 213 => Y_J2_grow
  | 214 => Y_J2_grow_2
  | 215 => Y_J2_size
  | 216 => Y_J2_get
  | 217 => Y_J2_elementData
  | 218 => Y_J3_init
  | 219 => Y_J4_init
  | 220 => Y_J4_init_2
  | 221 => Y_J4_tableSizeFor
  | 222 => Y_J4_put
  | 223 => Y_J4_hash
  | 224 => Y_J4_putVal
  | 225 => Y_J4_resize
  | 226 => Y_J4_treeifyBin
  | 227 => Y_J4_containsKey
  | 228 => Y_J4_getNode
  | 229 => Y_J4_size
  | 230 => Y_J4_remove
  | 231 => Y_J4_removeNode
  | 232 => Y_J4_clear
  | 233 => Y_J5_init
  | 234 => Y_J5_init_2
  | 235 => Y_J5_keySet
  | 236 => Y_J5_sequencedKeySet
  | 237 => Y_J5_newNode
  | 238 => Y_J5_linkNodeAtEnd
  | 239 => Y_J5_afterNodeAccess
  | 240 => Y_J5_afterNodeInsertion
  | 241 => Y_J5_removeEldestEntry
  | 242 => Y_J5_afterNodeRemoval
  | 243 => Y_J5_clear
  | 244 => Y_J5_get
  | 245 => Y_J6_init
  | 246 => Y_J6_isEmpty
  | 247 => Y_J6_inc
  | 248 => Y_J6_pollFirst
  | 249 => Y_J6_elementAt
  | 250 => Y_J6_size
  | 251 => Y_J6_sub
  | 252 => Y_J6_addLast
  | 253 => Y_J6_removeFirst
  | 254 => Y_J6_removeLast
  | 255 => Y_J6_pollLast
  | 256 => Y_J6_dec
  | 257 => Y_J7_init
  | 258 => Y_J7_isLatin1
  | 259 => Y_J7_length
  | 260 => Y_J7_append
  | 261 => Y_J7_ensureCapacityInternal
  | 262 => Y_J7_newCapacity
  | 263 => Y_J7_setLength
  | 264 => Y_J7_charAt
  | 265 => Y_J8_init
  | 266 => Y_J8_length
  | 267 => Y_J8_append
  | 268 => Y_J8_setLength
  | 269 => Y_J8_charAt
  | 270 => Y_J9_isLatin1
  | 271 => Y_J9_coder
  | 272 => Y_J9_checkIndex
  | 273 => Y_J9_indexOf
  | 274 => Y_J9_indexOf_2
  | 275 => Y_J9_length
  | 276 => Y_J11_init
  | 277 => Y_J11_hasNext
  | 278 => Y_J11_next
  | 279 => Y_J11_checkForComodification
  | 280 => Y_J12_successor
  | 281 => Y_J12_getFirstEntry
  | 282 => Y_J12_init
  | 283 => Y_J12_put
  | 284 => Y_J12_put_2
  | 285 => Y_J12_addEntryToEmptyMap
  | 286 => Y_J12_compare
  | 287 => Y_J12_addEntry
  | 288 => Y_J12_fixAfterInsertion
  | 289 => Y_J12_parentOf
  | 290 => Y_J12_leftOf
  | 291 => Y_J12_rightOf
  | 292 => Y_J12_colorOf
  | 293 => Y_J12_setColor
  | 294 => Y_J12_rotateLeft
  | 295 => Y_J12_rotateRight
  | 296 => Y_J12_values
  | 297 => Y_J13_init
  | 298 => Y_J14_init
  | 299 => Y_J14_iterator
  | 300 => Y_J14_add
  | 301 => Y_J14_size
  | 302 => Y_J14_contains
  | 303 => Y_J14_clear
  | 304 => Y_J15_init
  | 305 => Y_J16_init
  | 306 => Y_J17_isNaN
  | 307 => Y_J18_numberOfLeadingZeros
  | 308 => Y_J18_compare
  | 309 => Y_J18_intValue
  | 310 => Y_J18_valueOf
  | 311 => Y_J18_init
  | 312 => Y_J18_bitCount
  | 313 => Y_J22_hasNext
  | 314 => Y_J22_nextNode
  | 315 => Y_J22_init
  | 316 => Y_J23_next
  | 317 => Y_J23_init
  | 318 => Y_J25_iterator
  | 319 => Y_J25_init
  | 320 => Y_J27_hasNext
  | 321 => Y_J27_nextEntry
  | 322 => Y_J27_init
  | 323 => Y_J28_next
  | 324 => Y_J28_init
  | 325 => Y_J29_canEncode
  | 326 => Y_J29_indexOf
  | 327 => Y_J29_canEncode_2
  | 328 => Y_J29_indexOfChar
  | 329 => Y_J30_newLength
  | 330 => Y_J30_hugeLength
  | 331 => Y_J31_getKey
  | 332 => Y_J31_init
  | 333 => Y_J32_init
  | 334 => Y_J33_min
  | 335 => Y_J33_max
  | 336 => Y_J36_checkIndex
  | 337 => Y_J38_copyOf
  | 338 => Y_J38_copyOf_2
  | 339 => Y_J38_copyOf_3
  | 340 => Y_J39_checkIndex
  | 341 => Y_J39_requireNonNull
  | 342 => Y_J40_init
  | 343 => Y_J41_iterator
  | 344 => Y_J41_init
  | 345 => Y_J42_init
  | 346 => Y_J43_init
  | 347 => Y_J43_add
  | 348 => Y_J43_offer
  | 349 => Y_J43_grow
  | 350 => Y_J43_siftUp
  | 351 => Y_J43_siftUpUsingComparator
  | 352 => Y_J43_poll
  | 353 => Y_J43_siftDownUsingComparator
  | 354 => Y_J45_init
  | _ => Y_law
def flk_0 : List (Nat × Nat × Nat) := [(54, 1, 0), (101, 2, 4), (61, 1, 1), (131, 2, 3), (118, 2, 2), (153, 2, 0), (180, 6, 4), (186, 6, 1), (190, 6, 2), (193, 6, 5), (201, 6, 6), (204, 6, 7), (207, 6, 8), (33, 8, 0), (75, 1, 3), (215, 4, 0), (220, 6, 3), (256, 2, 1), (268, 2, 5), (271, 4, 9), (313, 4, 8), (316, 4, 7), (318, 4, 3), (361, 6, 0), (324, 3, 0), (364, 7, 1), (367, 7, 2), (371, 7, 4), (376, 7, 5), (383, 7, 6), (386, 7, 3), (395, 7, 0), (68, 1, 2), (444, 11, 2), (447, 11, 3), (450, 11, 0), (453, 11, 4)]
theorem flk_0_0 : (fun e : Nat × Nat × Nat => FG RX0 e.1 e.2.1 e.2.2) ((54, 1, 0)) := FG.mk' (i := 0) (k := 0) (by decide) (by decide) rfl (by decide) (Or.inl q408) (Or.inl rfl) (Or.inl rfl)
theorem flk_0_1 : (fun e : Nat × Nat × Nat => FG RX0 e.1 e.2.1 e.2.2) ((101, 2, 4)) := FG.mk' (i := 1) (k := 4) (by decide) (by decide) rfl (by decide) (Or.inr ⟨_, q290⟩) (Or.inl rfl) (Or.inl rfl)
theorem flk_0_2 : (fun e : Nat × Nat × Nat => FG RX0 e.1 e.2.1 e.2.2) ((61, 1, 1)) := FG.mk' (i := 0) (k := 1) (by decide) (by decide) rfl (by decide) (Or.inl q409) (Or.inl rfl) (Or.inl rfl)
theorem flk_0_3 : (fun e : Nat × Nat × Nat => FG RX0 e.1 e.2.1 e.2.2) ((131, 2, 3)) := FG.mk' (i := 1) (k := 3) (by decide) (by decide) rfl (by decide) (Or.inr ⟨_, q287⟩) (Or.inl rfl) (Or.inl rfl)
theorem flk_0_4 : (fun e : Nat × Nat × Nat => FG RX0 e.1 e.2.1 e.2.2) ((118, 2, 2)) := FG.mk' (i := 1) (k := 2) (by decide) (by decide) rfl (by decide) (Or.inr ⟨_, q285⟩) (Or.inl rfl) (Or.inl rfl)
theorem flk_0_5 : (fun e : Nat × Nat × Nat => FG RX0 e.1 e.2.1 e.2.2) ((153, 2, 0)) := FG.mk' (i := 1) (k := 0) (by decide) (by decide) rfl (by decide) (Or.inr ⟨_, q280⟩) (Or.inl rfl) (Or.inl rfl)
theorem flk_0_6 : (fun e : Nat × Nat × Nat => FG RX0 e.1 e.2.1 e.2.2) ((180, 6, 4)) := FG.mk' (i := 5) (k := 4) (by decide) (by decide) rfl (by decide) (Or.inr ⟨_, q653⟩) (Or.inl rfl) (Or.inl rfl)
theorem flk_0_7 : (fun e : Nat × Nat × Nat => FG RX0 e.1 e.2.1 e.2.2) ((186, 6, 1)) := FG.mk' (i := 5) (k := 1) (by decide) (by decide) rfl (by decide) (Or.inr ⟨_, q644⟩) (Or.inl rfl) (Or.inl rfl)
theorem flk_0_8 : (fun e : Nat × Nat × Nat => FG RX0 e.1 e.2.1 e.2.2) ((190, 6, 2)) := FG.mk' (i := 5) (k := 2) (by decide) (by decide) rfl (by decide) (Or.inr ⟨_, q647⟩) (Or.inl rfl) (Or.inl rfl)
theorem flk_0_9 : (fun e : Nat × Nat × Nat => FG RX0 e.1 e.2.1 e.2.2) ((193, 6, 5)) := FG.mk' (i := 5) (k := 5) (by decide) (by decide) rfl (by decide) (Or.inr ⟨_, q656⟩) (Or.inl rfl) (Or.inl rfl)
theorem flk_0_10 : (fun e : Nat × Nat × Nat => FG RX0 e.1 e.2.1 e.2.2) ((201, 6, 6)) := FG.mk' (i := 5) (k := 6) (by decide) (by decide) rfl (by decide) (Or.inr ⟨_, q659⟩) (Or.inl rfl) (Or.inl rfl)
theorem flk_0_11 : (fun e : Nat × Nat × Nat => FG RX0 e.1 e.2.1 e.2.2) ((204, 6, 7)) := FG.mk' (i := 5) (k := 7) (by decide) (by decide) rfl (by decide) (Or.inr ⟨_, q661⟩) (Or.inl rfl) (Or.inl rfl)
theorem flk_0_12 : (fun e : Nat × Nat × Nat => FG RX0 e.1 e.2.1 e.2.2) ((207, 6, 8)) := FG.mk' (i := 5) (k := 8) (by decide) (by decide) rfl (by decide) (Or.inr ⟨_, q663⟩) (Or.inl rfl) (Or.inl rfl)
theorem flk_0_13 : (fun e : Nat × Nat × Nat => FG RX0 e.1 e.2.1 e.2.2) ((33, 8, 0)) := FG.mk' (i := 7) (k := 0) (by decide) (by decide) rfl (by decide) (Or.inr ⟨_, q1668⟩) (Or.inl rfl) (Or.inl rfl)
theorem flk_0_14 : (fun e : Nat × Nat × Nat => FG RX0 e.1 e.2.1 e.2.2) ((75, 1, 3)) := FG.mk' (i := 0) (k := 3) (by decide) (by decide) rfl (by decide) (Or.inl q412) (Or.inl rfl) (Or.inl rfl)
theorem flk_0_15 : (fun e : Nat × Nat × Nat => FG RX0 e.1 e.2.1 e.2.2) ((215, 4, 0)) := FG.mk' (i := 3) (k := 0) (by decide) (by decide) rfl (by decide) (Or.inr ⟨_, q367⟩) (Or.inl rfl) (Or.inl rfl)
theorem flk_0_16 : (fun e : Nat × Nat × Nat => FG RX0 e.1 e.2.1 e.2.2) ((220, 6, 3)) := FG.mk' (i := 5) (k := 3) (by decide) (by decide) rfl (by decide) (Or.inr ⟨_, q650⟩) (Or.inl rfl) (Or.inl rfl)
theorem flk_0_17 : (fun e : Nat × Nat × Nat => FG RX0 e.1 e.2.1 e.2.2) ((256, 2, 1)) := FG.mk' (i := 1) (k := 1) (by decide) (by decide) rfl (by decide) (Or.inr ⟨_, q283⟩) (Or.inl rfl) (Or.inl rfl)
theorem flk_0_18 : (fun e : Nat × Nat × Nat => FG RX0 e.1 e.2.1 e.2.2) ((268, 2, 5)) := FG.mk' (i := 1) (k := 5) (by decide) (by decide) rfl (by decide) (Or.inr ⟨_, q292⟩) (Or.inl rfl) (Or.inl rfl)
theorem flk_0_19 : (fun e : Nat × Nat × Nat => FG RX0 e.1 e.2.1 e.2.2) ((271, 4, 9)) := FG.mk' (i := 3) (k := 9) (by decide) (by decide) rfl (by decide) (Or.inr ⟨_, q385⟩) (Or.inl rfl) (Or.inl rfl)
theorem flk_0_20 : (fun e : Nat × Nat × Nat => FG RX0 e.1 e.2.1 e.2.2) ((313, 4, 8)) := FG.mk' (i := 3) (k := 8) (by decide) (by decide) rfl (by decide) (Or.inr ⟨_, q382⟩) (Or.inl rfl) (Or.inl rfl)
theorem flk_0_21 : (fun e : Nat × Nat × Nat => FG RX0 e.1 e.2.1 e.2.2) ((316, 4, 7)) := FG.mk' (i := 3) (k := 7) (by decide) (by decide) rfl (by decide) (Or.inr ⟨_, q379⟩) (Or.inl rfl) (Or.inl rfl)
theorem flk_0_22 : (fun e : Nat × Nat × Nat => FG RX0 e.1 e.2.1 e.2.2) ((318, 4, 3)) := FG.mk' (i := 3) (k := 3) (by decide) (by decide) rfl (by decide) (Or.inr ⟨_, q372⟩) (Or.inl rfl) (Or.inl rfl)
theorem flk_0_23 : (fun e : Nat × Nat × Nat => FG RX0 e.1 e.2.1 e.2.2) ((361, 6, 0)) := FG.mk' (i := 5) (k := 0) (by decide) (by decide) rfl (by decide) (Or.inr ⟨_, q640⟩) (Or.inl rfl) (Or.inl rfl)
theorem flk_0_24 : (fun e : Nat × Nat × Nat => FG RX0 e.1 e.2.1 e.2.2) ((324, 3, 0)) := FG.mk' (i := 2) (k := 0) (by decide) (by decide) rfl (by decide) (Or.inr ⟨_, q209⟩) (Or.inl rfl) (Or.inl rfl)
theorem flk_0_25 : (fun e : Nat × Nat × Nat => FG RX0 e.1 e.2.1 e.2.2) ((364, 7, 1)) := FG.mk' (i := 6) (k := 1) (by decide) (by decide) rfl (by decide) (Or.inr ⟨_, q1572⟩) (Or.inl rfl) (Or.inl rfl)
theorem flk_0_26 : (fun e : Nat × Nat × Nat => FG RX0 e.1 e.2.1 e.2.2) ((367, 7, 2)) := FG.mk' (i := 6) (k := 2) (by decide) (by decide) rfl (by decide) (Or.inr ⟨_, q1575⟩) (Or.inl rfl) (Or.inl rfl)
theorem flk_0_27 : (fun e : Nat × Nat × Nat => FG RX0 e.1 e.2.1 e.2.2) ((371, 7, 4)) := FG.mk' (i := 6) (k := 4) (by decide) (by decide) rfl (by decide) (Or.inr ⟨_, q1581⟩) (Or.inl rfl) (Or.inl rfl)
theorem flk_0_28 : (fun e : Nat × Nat × Nat => FG RX0 e.1 e.2.1 e.2.2) ((376, 7, 5)) := FG.mk' (i := 6) (k := 5) (by decide) (by decide) rfl (by decide) (Or.inr ⟨_, q1584⟩) (Or.inl rfl) (Or.inl rfl)
theorem flk_0_29 : (fun e : Nat × Nat × Nat => FG RX0 e.1 e.2.1 e.2.2) ((383, 7, 6)) := FG.mk' (i := 6) (k := 6) (by decide) (by decide) rfl (by decide) (Or.inr ⟨_, q1587⟩) (Or.inl rfl) (Or.inl rfl)
theorem flk_0_30 : (fun e : Nat × Nat × Nat => FG RX0 e.1 e.2.1 e.2.2) ((386, 7, 3)) := FG.mk' (i := 6) (k := 3) (by decide) (by decide) rfl (by decide) (Or.inr ⟨_, q1578⟩) (Or.inl rfl) (Or.inl rfl)
theorem flk_0_31 : (fun e : Nat × Nat × Nat => FG RX0 e.1 e.2.1 e.2.2) ((395, 7, 0)) := FG.mk' (i := 6) (k := 0) (by decide) (by decide) rfl (by decide) (Or.inr ⟨_, q1569⟩) (Or.inl rfl) (Or.inl rfl)
theorem flk_0_32 : (fun e : Nat × Nat × Nat => FG RX0 e.1 e.2.1 e.2.2) ((68, 1, 2)) := FG.mk' (i := 0) (k := 2) (by decide) (by decide) rfl (by decide) (Or.inl q411) (Or.inl rfl) (Or.inl rfl)
theorem flk_0_33 : (fun e : Nat × Nat × Nat => FG RX0 e.1 e.2.1 e.2.2) ((444, 11, 2)) := FG.mk' (i := 10) (k := 2) (by decide) (by decide) rfl (by decide) (Or.inr ⟨_, q2647⟩) (Or.inl rfl) (Or.inl rfl)
theorem flk_0_34 : (fun e : Nat × Nat × Nat => FG RX0 e.1 e.2.1 e.2.2) ((447, 11, 3)) := FG.mk' (i := 10) (k := 3) (by decide) (by decide) rfl (by decide) (Or.inr ⟨_, q2649⟩) (Or.inl rfl) (Or.inl rfl)
theorem flk_0_35 : (fun e : Nat × Nat × Nat => FG RX0 e.1 e.2.1 e.2.2) ((450, 11, 0)) := FG.mk' (i := 10) (k := 0) (by decide) (by decide) rfl (by decide) (Or.inr ⟨_, q2644⟩) (Or.inl rfl) (Or.inl rfl)
theorem flk_0_36 : (fun e : Nat × Nat × Nat => FG RX0 e.1 e.2.1 e.2.2) ((453, 11, 4)) := FG.mk' (i := 10) (k := 4) (by decide) (by decide) rfl (by decide) (Or.inr ⟨_, q2651⟩) (Or.inl rfl) (Or.inl rfl)
theorem flk_0_ok : ∀ e ∈ flk_0, FG RX0 e.1 e.2.1 e.2.2 := List.forall_mem_cons.mpr ⟨flk_0_0, List.forall_mem_cons.mpr ⟨flk_0_1, List.forall_mem_cons.mpr ⟨flk_0_2, List.forall_mem_cons.mpr ⟨flk_0_3, List.forall_mem_cons.mpr ⟨flk_0_4, List.forall_mem_cons.mpr ⟨flk_0_5, List.forall_mem_cons.mpr ⟨flk_0_6, List.forall_mem_cons.mpr ⟨flk_0_7, List.forall_mem_cons.mpr ⟨flk_0_8, List.forall_mem_cons.mpr ⟨flk_0_9, List.forall_mem_cons.mpr ⟨flk_0_10, List.forall_mem_cons.mpr ⟨flk_0_11, List.forall_mem_cons.mpr ⟨flk_0_12, List.forall_mem_cons.mpr ⟨flk_0_13, List.forall_mem_cons.mpr ⟨flk_0_14, List.forall_mem_cons.mpr ⟨flk_0_15, List.forall_mem_cons.mpr ⟨flk_0_16, List.forall_mem_cons.mpr ⟨flk_0_17, List.forall_mem_cons.mpr ⟨flk_0_18, List.forall_mem_cons.mpr ⟨flk_0_19, List.forall_mem_cons.mpr ⟨flk_0_20, List.forall_mem_cons.mpr ⟨flk_0_21, List.forall_mem_cons.mpr ⟨flk_0_22, List.forall_mem_cons.mpr ⟨flk_0_23, List.forall_mem_cons.mpr ⟨flk_0_24, List.forall_mem_cons.mpr ⟨flk_0_25, List.forall_mem_cons.mpr ⟨flk_0_26, List.forall_mem_cons.mpr ⟨flk_0_27, List.forall_mem_cons.mpr ⟨flk_0_28, List.forall_mem_cons.mpr ⟨flk_0_29, List.forall_mem_cons.mpr ⟨flk_0_30, List.forall_mem_cons.mpr ⟨flk_0_31, List.forall_mem_cons.mpr ⟨flk_0_32, List.forall_mem_cons.mpr ⟨flk_0_33, List.forall_mem_cons.mpr ⟨flk_0_34, List.forall_mem_cons.mpr ⟨flk_0_35, List.forall_mem_cons.mpr ⟨flk_0_36, fun _ h => absurd h List.not_mem_nil⟩⟩⟩⟩⟩⟩⟩⟩⟩⟩⟩⟩⟩⟩⟩⟩⟩⟩⟩⟩⟩⟩⟩⟩⟩⟩⟩⟩⟩⟩⟩⟩⟩⟩⟩⟩⟩
def plk_0 : List (Nat × Nat × Nat × FieldType × Bool) := [(54, 1, 0, tyX0 0, false), (61, 1, 1, tyX0 1, true), (68, 1, 2, tyX0 2, true), (75, 1, 3, tyX0 3, true), (180, 6, 4, tyX5 4, false), (268, 2, 5, tyX1 5, false)]
theorem plk_0_0 : (fun e : Nat × Nat × Nat × FieldType × Bool => PG RX0 e.1 e.2.1 e.2.2.1 e.2.2.2.1 e.2.2.2.2) ((54, 1, 0, tyX0 0, false)) := PG.mk' (i := 0) (k := 0) (by decide) (by decide) rfl (by decide) (Or.inl q408) (Or.inl rfl) rfl rfl (fun h => by cases h)
theorem plk_0_1 : (fun e : Nat × Nat × Nat × FieldType × Bool => PG RX0 e.1 e.2.1 e.2.2.1 e.2.2.2.1 e.2.2.2.2) ((61, 1, 1, tyX0 1, true)) := PG.mk' (i := 0) (k := 1) (by decide) (by decide) rfl (by decide) (Or.inl q409) (Or.inl rfl) rfl rfl (fun _ => rfl)
theorem plk_0_2 : (fun e : Nat × Nat × Nat × FieldType × Bool => PG RX0 e.1 e.2.1 e.2.2.1 e.2.2.2.1 e.2.2.2.2) ((68, 1, 2, tyX0 2, true)) := PG.mk' (i := 0) (k := 2) (by decide) (by decide) rfl (by decide) (Or.inl q411) (Or.inl rfl) rfl rfl (fun _ => rfl)
theorem plk_0_3 : (fun e : Nat × Nat × Nat × FieldType × Bool => PG RX0 e.1 e.2.1 e.2.2.1 e.2.2.2.1 e.2.2.2.2) ((75, 1, 3, tyX0 3, true)) := PG.mk' (i := 0) (k := 3) (by decide) (by decide) rfl (by decide) (Or.inl q412) (Or.inl rfl) rfl rfl (fun _ => rfl)
theorem plk_0_4 : (fun e : Nat × Nat × Nat × FieldType × Bool => PG RX0 e.1 e.2.1 e.2.2.1 e.2.2.2.1 e.2.2.2.2) ((180, 6, 4, tyX5 4, false)) := PG.mk' (i := 5) (k := 4) (by decide) (by decide) rfl (by decide) (Or.inr ⟨_, q653⟩) (Or.inl rfl) rfl rfl (fun h => by cases h)
theorem plk_0_5 : (fun e : Nat × Nat × Nat × FieldType × Bool => PG RX0 e.1 e.2.1 e.2.2.1 e.2.2.2.1 e.2.2.2.2) ((268, 2, 5, tyX1 5, false)) := PG.mk' (i := 1) (k := 5) (by decide) (by decide) rfl (by decide) (Or.inr ⟨_, q292⟩) (Or.inl rfl) rfl rfl (fun h => by cases h)
theorem plk_0_ok : ∀ e ∈ plk_0, PG RX0 e.1 e.2.1 e.2.2.1 e.2.2.2.1 e.2.2.2.2 := List.forall_mem_cons.mpr ⟨plk_0_0, List.forall_mem_cons.mpr ⟨plk_0_1, List.forall_mem_cons.mpr ⟨plk_0_2, List.forall_mem_cons.mpr ⟨plk_0_3, List.forall_mem_cons.mpr ⟨plk_0_4, List.forall_mem_cons.mpr ⟨plk_0_5, fun _ h => absurd h List.not_mem_nil⟩⟩⟩⟩⟩⟩
def nlk_0 : List (Nat × Nat) := [(51, 1), (58, 13), (65, 14), (72, 3), (31, 7), (164, 5), (217, 17), (321, 11), (436, 10)]
theorem nlk_0_0 : (fun e : Nat × Nat => NG RX0 e.1 e.2) ((51, 1)) := ⟨by decide, by decide, _, rfl, q165, q166, q99⟩
theorem nlk_0_1 : (fun e : Nat × Nat => NG RX0 e.1 e.2) ((58, 13)) := ⟨by decide, by decide, _, rfl, q308, q309, q107⟩
theorem nlk_0_2 : (fun e : Nat × Nat => NG RX0 e.1 e.2) ((65, 14)) := ⟨by decide, by decide, _, rfl, q328, q329, q109⟩
theorem nlk_0_3 : (fun e : Nat × Nat => NG RX0 e.1 e.2) ((72, 3)) := ⟨by decide, by decide, _, rfl, q360, q361, q112⟩
theorem nlk_0_4 : (fun e : Nat × Nat => NG RX0 e.1 e.2) ((31, 7)) := ⟨by decide, by decide, _, rfl, q1661, q1662, q146⟩
theorem nlk_0_5 : (fun e : Nat × Nat => NG RX0 e.1 e.2) ((164, 5)) := ⟨by decide, by decide, _, rfl, q1735, q594, q116⟩
theorem nlk_0_6 : (fun e : Nat × Nat => NG RX0 e.1 e.2) ((217, 17)) := ⟨by decide, by decide, _, rfl, q1896, q1897, q115⟩
theorem nlk_0_7 : (fun e : Nat × Nat => NG RX0 e.1 e.2) ((321, 11)) := ⟨by decide, by decide, _, rfl, q2410, q178, q103⟩
theorem nlk_0_8 : (fun e : Nat × Nat => NG RX0 e.1 e.2) ((436, 10)) := ⟨by decide, by decide, _, rfl, q2635, q2636, q155⟩
theorem nlk_0_ok : ∀ e ∈ nlk_0, NG RX0 e.1 e.2 := List.forall_mem_cons.mpr ⟨nlk_0_0, List.forall_mem_cons.mpr ⟨nlk_0_1, List.forall_mem_cons.mpr ⟨nlk_0_2, List.forall_mem_cons.mpr ⟨nlk_0_3, List.forall_mem_cons.mpr ⟨nlk_0_4, List.forall_mem_cons.mpr ⟨nlk_0_5, List.forall_mem_cons.mpr ⟨nlk_0_6, List.forall_mem_cons.mpr ⟨nlk_0_7, List.forall_mem_cons.mpr ⟨nlk_0_8, fun _ h => absurd h List.not_mem_nil⟩⟩⟩⟩⟩⟩⟩⟩⟩
def cls_0 : List (Nat × Nat × Nat) := [(96, 2, 2), (27, 3, 3), (127, 1, 6), (142, 3, 10), (227, 1, 310), (277, 1, 312), (349, 3, 36), (332, 2, 37), (372, 1, 14), (408, 1, 44)]
theorem cls_0_0 : (fun e : Nat × Nat × Nat => CS RX0 (.invokestatic e.1) 3 0 e.2.1 (mth e.2.2)) ((96, 2, 2)) := CS.S mk_X0_isSetting q426 q427 (by decide +kernel) (by decide +kernel)
theorem cls_0_1 : (fun e : Nat × Nat × Nat => CS RX0 (.invokestatic e.1) 3 0 e.2.1 (mth e.2.2)) ((27, 3, 3)) := CS.S mk_X0_isBetween q430 q431 (by decide +kernel) (by decide +kernel)
theorem cls_0_2 : (fun e : Nat × Nat × Nat => CS RX0 (.invokestatic e.1) 3 0 e.2.1 (mth e.2.2)) ((127, 1, 6)) := CS.S mk_X0_isPlace q1653 q1654 (by decide +kernel) (by decide +kernel)
theorem cls_0_3 : (fun e : Nat × Nat × Nat => CS RX0 (.invokestatic e.1) 3 0 e.2.1 (mth e.2.2)) ((142, 3, 10)) := CS.S mk_X0_arePins q1713 q1714 (by decide +kernel) (by decide +kernel)
theorem cls_0_4 : (fun e : Nat × Nat × Nat => CS RX0 (.invokestatic e.1) 3 0 e.2.1 (mth e.2.2)) ((227, 1, 310)) := CS.S mk_J18_valueOf q1925 q1926 (by decide +kernel) (by decide +kernel)
theorem cls_0_5 : (fun e : Nat × Nat × Nat => CS RX0 (.invokestatic e.1) 3 0 e.2.1 (mth e.2.2)) ((277, 1, 312)) := CS.S mk_J18_bitCount q2147 q2148 (by decide +kernel) (by decide +kernel)
theorem cls_0_6 : (fun e : Nat × Nat × Nat => CS RX0 (.invokestatic e.1) 3 0 e.2.1 (mth e.2.2)) ((349, 3, 36)) := CS.S mk_X0_layOrder q2423 q2424 (by decide +kernel) (by decide +kernel)
theorem cls_0_7 : (fun e : Nat × Nat × Nat => CS RX0 (.invokestatic e.1) 3 0 e.2.1 (mth e.2.2)) ((332, 2, 37)) := CS.S mk_X0_has q2426 q2427 (by decide +kernel) (by decide +kernel)
theorem cls_0_8 : (fun e : Nat × Nat × Nat => CS RX0 (.invokestatic e.1) 3 0 e.2.1 (mth e.2.2)) ((372, 1, 14)) := CS.S mk_X0_viasOf q2452 q1793 (by decide +kernel) (by decide +kernel)
theorem cls_0_9 : (fun e : Nat × Nat × Nat => CS RX0 (.invokestatic e.1) 3 0 e.2.1 (mth e.2.2)) ((408, 1, 44)) := CS.S mk_X0_sum q2484 q2485 (by decide +kernel) (by decide +kernel)
theorem cls_0_ok : ∀ e ∈ cls_0, CS RX0 (.invokestatic e.1) 3 0 e.2.1 (mth e.2.2) := List.forall_mem_cons.mpr ⟨cls_0_0, List.forall_mem_cons.mpr ⟨cls_0_1, List.forall_mem_cons.mpr ⟨cls_0_2, List.forall_mem_cons.mpr ⟨cls_0_3, List.forall_mem_cons.mpr ⟨cls_0_4, List.forall_mem_cons.mpr ⟨cls_0_5, List.forall_mem_cons.mpr ⟨cls_0_6, List.forall_mem_cons.mpr ⟨cls_0_7, List.forall_mem_cons.mpr ⟨cls_0_8, List.forall_mem_cons.mpr ⟨cls_0_9, fun _ h => absurd h List.not_mem_nil⟩⟩⟩⟩⟩⟩⟩⟩⟩⟩
def cli_0 : List (Nat × Nat × Nat) := [(45, 1, 354), (53, 1, 50), (60, 1, 245), (67, 1, 265), (74, 1, 79), (79, 2, 51), (111, 2, 190), (166, 5, 176), (219, 1, 282), (323, 1, 209), (438, 2, 199)]
theorem cli_0_0 : (fun e : Nat × Nat × Nat => ∀ tag, tag ≠ 0 → CS RX0 (.invokespecial e.1) 3 tag e.2.1 (mth e.2.2)) ((45, 1, 354)) := fun tag ht => CS.I mk_J45_init q162 q163 rfl rfl ht (by decide +kernel) (by decide +kernel)
theorem cli_0_1 : (fun e : Nat × Nat × Nat => ∀ tag, tag ≠ 0 → CS RX0 (.invokespecial e.1) 3 tag e.2.1 (mth e.2.2)) ((53, 1, 50)) := fun tag ht => CS.I mk_X1_init q167 q168 rfl rfl ht (by decide +kernel) (by decide +kernel)
theorem cli_0_2 : (fun e : Nat × Nat × Nat => ∀ tag, tag ≠ 0 → CS RX0 (.invokespecial e.1) 3 tag e.2.1 (mth e.2.2)) ((60, 1, 245)) := fun tag ht => CS.I mk_J6_init q310 q311 rfl rfl ht (by decide +kernel) (by decide +kernel)
theorem cli_0_3 : (fun e : Nat × Nat × Nat => ∀ tag, tag ≠ 0 → CS RX0 (.invokespecial e.1) 3 tag e.2.1 (mth e.2.2)) ((67, 1, 265)) := fun tag ht => CS.I mk_J8_init q330 q331 rfl rfl ht (by decide +kernel) (by decide +kernel)
theorem cli_0_4 : (fun e : Nat × Nat × Nat => ∀ tag, tag ≠ 0 → CS RX0 (.invokespecial e.1) 3 tag e.2.1 (mth e.2.2)) ((74, 1, 79)) := fun tag ht => CS.IN mk_X3_init q362 q363 rfl rfl ht (by decide +kernel) (by decide +kernel)
theorem cli_0_5 : (fun e : Nat × Nat × Nat => ∀ tag, tag ≠ 0 → CS RX0 (.invokespecial e.1) 3 tag e.2.1 (mth e.2.2)) ((79, 2, 51)) := fun tag ht => CS.I mk_X1_init_2 q439 q440 rfl rfl ht (by decide +kernel) (by decide +kernel)
theorem cli_0_6 : (fun e : Nat × Nat × Nat => ∀ tag, tag ≠ 0 → CS RX0 (.invokespecial e.1) 3 tag e.2.1 (mth e.2.2)) ((111, 2, 190)) := fun tag ht => CS.I mk_X7_init q1663 q1664 rfl rfl ht (by decide +kernel) (by decide +kernel)
theorem cli_0_7 : (fun e : Nat × Nat × Nat => ∀ tag, tag ≠ 0 → CS RX0 (.invokespecial e.1) 3 tag e.2.1 (mth e.2.2)) ((166, 5, 176)) := fun tag ht => CS.I mk_X5_init_2 q1736 q599 rfl rfl ht (by decide +kernel) (by decide +kernel)
theorem cli_0_8 : (fun e : Nat × Nat × Nat => ∀ tag, tag ≠ 0 → CS RX0 (.invokespecial e.1) 3 tag e.2.1 (mth e.2.2)) ((219, 1, 282)) := fun tag ht => CS.I mk_J12_init q1898 q1899 rfl rfl ht (by decide +kernel) (by decide +kernel)
theorem cli_0_9 : (fun e : Nat × Nat × Nat => ∀ tag, tag ≠ 0 → CS RX0 (.invokespecial e.1) 3 tag e.2.1 (mth e.2.2)) ((323, 1, 209)) := fun tag ht => CS.I mk_J2_init q2411 q180 rfl rfl ht (by decide +kernel) (by decide +kernel)
theorem cli_0_10 : (fun e : Nat × Nat × Nat => ∀ tag, tag ≠ 0 → CS RX0 (.invokespecial e.1) 3 tag e.2.1 (mth e.2.2)) ((438, 2, 199)) := fun tag ht => CS.IN mk_X10_init q2637 q2638 rfl rfl ht (by decide +kernel) (by decide +kernel)
theorem cli_0_ok : ∀ e ∈ cli_0, ∀ tag, tag ≠ 0 → CS RX0 (.invokespecial e.1) 3 tag e.2.1 (mth e.2.2) := List.forall_mem_cons.mpr ⟨cli_0_0, List.forall_mem_cons.mpr ⟨cli_0_1, List.forall_mem_cons.mpr ⟨cli_0_2, List.forall_mem_cons.mpr ⟨cli_0_3, List.forall_mem_cons.mpr ⟨cli_0_4, List.forall_mem_cons.mpr ⟨cli_0_5, List.forall_mem_cons.mpr ⟨cli_0_6, List.forall_mem_cons.mpr ⟨cli_0_7, List.forall_mem_cons.mpr ⟨cli_0_8, List.forall_mem_cons.mpr ⟨cli_0_9, List.forall_mem_cons.mpr ⟨cli_0_10, fun _ h => absurd h List.not_mem_nil⟩⟩⟩⟩⟩⟩⟩⟩⟩⟩⟩
def clv_0 : List (Instr × Nat × Nat × Nat × Nat) := [((.invokevirtual 105), 3, 1, 1, 4), ((.invokevirtual 82), 3, 14, 2, 252), ((.invokevirtual 86), 3, 14, 1, 250), ((.invokevirtual 89), 3, 14, 1, 253), ((.invokevirtual 135), 3, 1, 2, 7), ((.invokevirtual 139), 3, 2, 1, 54), ((.invokevirtual 114), 3, 2, 2, 53), ((.invokevirtual 122), 3, 13, 2, 227), ((.invokevirtual 37), 3, 8, 1, 191), ((.invokevirtual 150), 3, 1, 2, 11), ((.invokevirtual 157), 3, 3, 2, 75), ((.invokevirtual 163), 3, 3, 1, 76), ((.invokevirtual 169), 3, 3, 2, 74), ((.invokevirtual 173), 3, 3, 2, 77), ((.invokevirtual 176), 3, 3, 2, 78), ((.invokevirtual 197), 3, 6, 1, 179), ((.invokevirtual 198), 3, 6, 1, 180), ((.invokeinterface 1 1), 5, 12, 1, 210), ((.invokeinterface 1 1), 5, 19, 1, 299), ((.invokeinterface 1 1), 5, 22, 1, 318), ((.invokeinterface 1 1), 5, 26, 1, 343), ((.invokeinterface 7 1), 5, 17, 1, 277), ((.invokeinterface 7 1), 5, 21, 1, 313), ((.invokeinterface 7 1), 5, 23, 1, 320), ((.invokeinterface 13 1), 5, 17, 1, 278), ((.invokeinterface 13 1), 5, 21, 1, 316), ((.invokeinterface 13 1), 5, 23, 1, 323), ((.invokeinterface 41 2), 5, 19, 2, 302), ((.invokevirtual 212), 3, 4, 2, 80), ((.invokevirtual 224), 3, 19, 1, 299), ((.invokevirtual 233), 3, 18, 3, 283), ((.invokevirtual 237), 3, 18, 1, 296), ((.invokevirtual 241), 3, 20, 1, 309), ((.invokevirtual 241), 3, 220, 1, 309), ((.invokevirtual 305), 3, 1, 3, 18), ((.invokevirtual 298), 3, 1, 4, 19), ((.invokevirtual 302), 3, 1, 4, 23), ((.invokevirtual 248), 3, 1, 4, 20), ((.invokevirtual 252), 3, 1, 3, 22), ((.invokevirtual 261), 3, 2, 2, 57), ((.invokevirtual 265), 3, 2, 1, 58), ((.invokevirtual 244), 3, 4, 3, 81), ((.invokevirtual 274), 3, 4, 1, 92), ((.invokevirtual 280), 3, 2, 3, 59), ((.invokevirtual 284), 3, 2, 3, 61), ((.invokevirtual 287), 3, 2, 2, 63), ((.invokevirtual 291), 3, 2, 2, 64), ((.invokevirtual 295), 3, 2, 1, 65), ((.invokevirtual 309), 3, 1, 3, 30), ((.invokevirtual 345), 3, 1, 1, 35), ((.invokeinterface 335 1), 5, 12, 1, 215), ((.invokevirtual 353), 3, 1, 3, 38), ((.invokeinterface 338 2), 5, 12, 2, 216), ((.invokevirtual 328), 3, 12, 1, 210), ((.invokevirtual 329), 3, 12, 1, 215), ((.invokevirtual 330), 3, 12, 2, 211), ((.invokevirtual 341), 3, 4, 2, 93), ((.invokevirtual 370), 3, 7, 1, 185), ((.invokevirtual 379), 3, 7, 2, 184), ((.invokevirtual 388), 3, 2, 1, 66), ((.invokevirtual 392), 3, 9, 1, 195), ((.invokevirtual 396), 3, 2, 1, 69), ((.invokevirtual 399), 3, 2, 1, 70), ((.invokevirtual 402), 3, 1, 1, 43), ((.invokevirtual 405), 3, 2, 1, 71), ((.invokevirtual 411), 3, 2, 1, 72), ((.invokevirtual 414), 3, 15, 1, 266), ((.invokeinterface 19 1), 5, 6, 1, 179), ((.invokeinterface 19 1), 5, 7, 1, 185), ((.invokevirtual 419), 3, 14, 1, 246), ((.invokevirtual 422), 3, 14, 1, 254), ((.invokevirtual 429), 3, 15, 2, 267), ((.invokevirtual 433), 3, 15, 2, 268), ((.invokevirtual 441), 3, 11, 1, 200)]
theorem clv_0_0 : (fun e : Instr × Nat × Nat × Nat × Nat => CS RX0 e.1 e.2.1 e.2.2.1 e.2.2.2.1 (mth e.2.2.2.2)) (((.invokevirtual 105), 3, 1, 1, 4)) := CS.V (i := 0) mk_X0_change ⟨by decide, Or.inl rfl, rfl⟩ rfl q435 q437 qs0 (by decide +kernel) (by decide +kernel)
theorem clv_0_1 : (fun e : Instr × Nat × Nat × Nat × Nat => CS RX0 e.1 e.2.1 e.2.2.1 e.2.2.2.1 (mth e.2.2.2.2)) (((.invokevirtual 82), 3, 14, 2, 252)) := CS.V (i := 13) mk_J6_addLast ⟨by decide, Or.inl rfl, rfl⟩ rfl q1628 q1629 q1630 (by decide +kernel) (by decide +kernel)
theorem clv_0_2 : (fun e : Instr × Nat × Nat × Nat × Nat => CS RX0 e.1 e.2.1 e.2.2.1 e.2.2.2.1 (mth e.2.2.2.2)) (((.invokevirtual 86), 3, 14, 1, 250)) := CS.V (i := 13) mk_J6_size ⟨by decide, Or.inl rfl, rfl⟩ rfl q1644 q704 q705 (by decide +kernel) (by decide +kernel)
theorem clv_0_3 : (fun e : Instr × Nat × Nat × Nat × Nat => CS RX0 e.1 e.2.1 e.2.2.1 e.2.2.2.1 (mth e.2.2.2.2)) (((.invokevirtual 89), 3, 14, 1, 253)) := CS.V (i := 13) mk_J6_removeFirst ⟨by decide, Or.inl rfl, rfl⟩ rfl q1645 q1646 q1647 (by decide +kernel) (by decide +kernel)
theorem clv_0_4 : (fun e : Instr × Nat × Nat × Nat × Nat => CS RX0 e.1 e.2.1 e.2.2.1 e.2.2.2.1 (mth e.2.2.2.2)) (((.invokevirtual 135), 3, 1, 2, 7)) := CS.V (i := 0) mk_X0_isTaken ⟨by decide, Or.inl rfl, rfl⟩ rfl q1657 q1659 qs9 (by decide +kernel) (by decide +kernel)
theorem clv_0_5 : (fun e : Instr × Nat × Nat × Nat × Nat => CS RX0 e.1 e.2.1 e.2.2.1 e.2.2.2.1 (mth e.2.2.2.2)) (((.invokevirtual 139), 3, 2, 1, 54)) := CS.V (i := 1) mk_X1_blockedMany ⟨by decide, Or.inl rfl, rfl⟩ rfl q1705 q1706 q1707 (by decide +kernel) (by decide +kernel)
theorem clv_0_6 : (fun e : Instr × Nat × Nat × Nat × Nat => CS RX0 e.1 e.2.1 e.2.2.1 e.2.2.2.1 (mth e.2.2.2.2)) (((.invokevirtual 114), 3, 2, 2, 53)) := CS.V (i := 1) mk_X1_pinOwner ⟨by decide, Or.inl rfl, rfl⟩ rfl q1673 q1674 q1675 (by decide +kernel) (by decide +kernel)
theorem clv_0_7 : (fun e : Instr × Nat × Nat × Nat × Nat => CS RX0 e.1 e.2.1 e.2.2.1 e.2.2.2.1 (mth e.2.2.2.2)) (((.invokevirtual 122), 3, 13, 2, 227)) := CS.U (i := 12) (owner := "java/util/HashMap") (x := ⟨"java/util/LinkedHashMap", "containsKey", "(Ljava/lang/Object;)Z"⟩) mk_J4_containsKey ⟨by decide, Or.inl rfl, rfl⟩ rfl q1681 q1682 q1685 q1684 (by decide +kernel) (by decide +kernel)
theorem clv_0_8 : (fun e : Instr × Nat × Nat × Nat × Nat => CS RX0 e.1 e.2.1 e.2.2.1 e.2.2.2.1 (mth e.2.2.2.2)) (((.invokevirtual 37), 3, 8, 1, 191)) := CS.V (i := 7) mk_X7_above ⟨by decide, Or.inl rfl, rfl⟩ rfl q1696 q1697 q1698 (by decide +kernel) (by decide +kernel)
theorem clv_0_9 : (fun e : Instr × Nat × Nat × Nat × Nat => CS RX0 e.1 e.2.1 e.2.2.1 e.2.2.2.1 (mth e.2.2.2.2)) (((.invokevirtual 150), 3, 1, 2, 11)) := CS.V (i := 0) mk_X0_isOpen ⟨by decide, Or.inl rfl, rfl⟩ rfl q1718 q1720 qs10 (by decide +kernel) (by decide +kernel)
theorem clv_0_10 : (fun e : Instr × Nat × Nat × Nat × Nat => CS RX0 e.1 e.2.1 e.2.2.1 e.2.2.2.1 (mth e.2.2.2.2)) (((.invokevirtual 157), 3, 3, 2, 75)) := CS.V (i := 2) mk_X2_isFull ⟨by decide, Or.inl rfl, rfl⟩ rfl q1722 q1723 q1724 (by decide +kernel) (by decide +kernel)
theorem clv_0_11 : (fun e : Instr × Nat × Nat × Nat × Nat => CS RX0 e.1 e.2.1 e.2.2.1 e.2.2.2.1 (mth e.2.2.2.2)) (((.invokevirtual 163), 3, 3, 1, 76)) := CS.V (i := 2) mk_X2_size ⟨by decide, Or.inl rfl, rfl⟩ rfl q1731 q1732 q1733 (by decide +kernel) (by decide +kernel)
theorem clv_0_12 : (fun e : Instr × Nat × Nat × Nat × Nat => CS RX0 e.1 e.2.1 e.2.2.1 e.2.2.2.1 (mth e.2.2.2.2)) (((.invokevirtual 169), 3, 3, 2, 74)) := CS.V (i := 2) mk_X2_add ⟨by decide, Or.inl rfl, rfl⟩ rfl q1737 q1504 q1505 (by decide +kernel) (by decide +kernel)
theorem clv_0_13 : (fun e : Instr × Nat × Nat × Nat × Nat => CS RX0 e.1 e.2.1 e.2.2.1 e.2.2.2.1 (mth e.2.2.2.2)) (((.invokevirtual 173), 3, 3, 2, 77)) := CS.V (i := 2) mk_X2_isIn ⟨by decide, Or.inl rfl, rfl⟩ rfl q1742 q1743 q1744 (by decide +kernel) (by decide +kernel)
theorem clv_0_14 : (fun e : Instr × Nat × Nat × Nat × Nat => CS RX0 e.1 e.2.1 e.2.2.1 e.2.2.2.1 (mth e.2.2.2.2)) (((.invokevirtual 176), 3, 3, 2, 78)) := CS.V (i := 2) mk_X2_get ⟨by decide, Or.inl rfl, rfl⟩ rfl q1747 q1748 q1749 (by decide +kernel) (by decide +kernel)
theorem clv_0_15 : (fun e : Instr × Nat × Nat × Nat × Nat => CS RX0 e.1 e.2.1 e.2.2.1 e.2.2.2.1 (mth e.2.2.2.2)) (((.invokevirtual 197), 3, 6, 1, 179)) := CS.V (i := 5) mk_X5_many ⟨by decide, Or.inl rfl, rfl⟩ rfl q1773 q1774 q1775 (by decide +kernel) (by decide +kernel)
theorem clv_0_16 : (fun e : Instr × Nat × Nat × Nat × Nat => CS RX0 e.1 e.2.1 e.2.2.1 e.2.2.2.1 (mth e.2.2.2.2)) (((.invokevirtual 198), 3, 6, 1, 180)) := CS.V (i := 5) mk_X5_vias ⟨by decide, Or.inl rfl, rfl⟩ rfl q1788 q1789 q1790 (by decide +kernel) (by decide +kernel)
theorem clv_0_17 : (fun e : Instr × Nat × Nat × Nat × Nat => CS RX0 e.1 e.2.1 e.2.2.1 e.2.2.2.1 (mth e.2.2.2.2)) (((.invokeinterface 1 1), 5, 12, 1, 210)) := CS.F (i := 11) (x := ⟨"java/util/Collection", "iterator", "()Ljava/util/Iterator;"⟩) mk_J2_iterator ⟨by decide, Or.inl rfl, rfl⟩ (by decide) q1796 q443 q724 q690 q689 q726 q725 q723 (by decide +kernel) (by decide +kernel)
theorem clv_0_18 : (fun e : Instr × Nat × Nat × Nat × Nat => CS RX0 e.1 e.2.1 e.2.2.1 e.2.2.2.1 (mth e.2.2.2.2)) (((.invokeinterface 1 1), 5, 19, 1, 299)) := CS.F (i := 18) (x := ⟨"java/util/Collection", "iterator", "()Ljava/util/Iterator;"⟩) mk_J14_iterator ⟨by decide, Or.inl rfl, rfl⟩ (by decide) q1796 q792 q790 q690 q689 q793 q791 q789 (by decide +kernel) (by decide +kernel)
theorem clv_0_19 : (fun e : Instr × Nat × Nat × Nat × Nat => CS RX0 e.1 e.2.1 e.2.2.1 e.2.2.2.1 (mth e.2.2.2.2)) (((.invokeinterface 1 1), 5, 22, 1, 318)) := CS.F (i := 21) (x := ⟨"java/util/Collection", "iterator", "()Ljava/util/Iterator;"⟩) mk_J25_iterator ⟨by decide, Or.inl rfl, rfl⟩ (by decide) q1796 q761 q759 q690 q689 q762 q760 q758 (by decide +kernel) (by decide +kernel)
theorem clv_0_20 : (fun e : Instr × Nat × Nat × Nat × Nat => CS RX0 e.1 e.2.1 e.2.2.1 e.2.2.2.1 (mth e.2.2.2.2)) (((.invokeinterface 1 1), 5, 26, 1, 343)) := CS.F (i := 25) (x := ⟨"java/util/Collection", "iterator", "()Ljava/util/Iterator;"⟩) mk_J41_iterator ⟨by decide, Or.inl rfl, rfl⟩ (by decide) q1796 q864 q862 q690 q689 q865 q863 q861 (by decide +kernel) (by decide +kernel)
theorem clv_0_21 : (fun e : Instr × Nat × Nat × Nat × Nat => CS RX0 e.1 e.2.1 e.2.2.1 e.2.2.2.1 (mth e.2.2.2.2)) (((.invokeinterface 7 1), 5, 17, 1, 277)) := CS.F (i := 16) (x := ⟨"java/util/Iterator", "hasNext", "()Z"⟩) mk_J11_hasNext ⟨by decide, Or.inl rfl, rfl⟩ (by decide) q1798 q478 q476 q468 q467 q479 q477 q475 (by decide +kernel) (by decide +kernel)
theorem clv_0_22 : (fun e : Instr × Nat × Nat × Nat × Nat => CS RX0 e.1 e.2.1 e.2.2.1 e.2.2.2.1 (mth e.2.2.2.2)) (((.invokeinterface 7 1), 5, 21, 1, 313)) := CS.F (i := 20) (x := ⟨"java/util/Iterator", "hasNext", "()Z"⟩) mk_J22_hasNext ⟨by decide, Or.inl rfl, rfl⟩ (by decide) q1798 q490 q488 q468 q467 q491 q489 q487 (by decide +kernel) (by decide +kernel)
theorem clv_0_23 : (fun e : Instr × Nat × Nat × Nat × Nat => CS RX0 e.1 e.2.1 e.2.2.1 e.2.2.2.1 (mth e.2.2.2.2)) (((.invokeinterface 7 1), 5, 23, 1, 320)) := CS.F (i := 22) (x := ⟨"java/util/Iterator", "hasNext", "()Z"⟩) mk_J27_hasNext ⟨by decide, Or.inl rfl, rfl⟩ (by decide) q1798 q506 q504 q468 q467 q507 q505 q503 (by decide +kernel) (by decide +kernel)
theorem clv_0_24 : (fun e : Instr × Nat × Nat × Nat × Nat => CS RX0 e.1 e.2.1 e.2.2.1 e.2.2.2.1 (mth e.2.2.2.2)) (((.invokeinterface 13 1), 5, 17, 1, 278)) := CS.F (i := 16) (x := ⟨"java/util/Iterator", "next", "()Ljava/lang/Object;"⟩) mk_J11_next ⟨by decide, Or.inl rfl, rfl⟩ (by decide) q1800 q526 q524 q512 q511 q527 q525 q475 (by decide +kernel) (by decide +kernel)
theorem clv_0_25 : (fun e : Instr × Nat × Nat × Nat × Nat => CS RX0 e.1 e.2.1 e.2.2.1 e.2.2.2.1 (mth e.2.2.2.2)) (((.invokeinterface 13 1), 5, 21, 1, 316)) := CS.F (i := 20) (x := ⟨"java/util/Iterator", "next", "()Ljava/lang/Object;"⟩) mk_J23_next ⟨by decide, Or.inl rfl, rfl⟩ (by decide) q1800 q546 q544 q512 q511 q547 q545 q487 (by decide +kernel) (by decide +kernel)
theorem clv_0_26 : (fun e : Instr × Nat × Nat × Nat × Nat => CS RX0 e.1 e.2.1 e.2.2.1 e.2.2.2.1 (mth e.2.2.2.2)) (((.invokeinterface 13 1), 5, 23, 1, 323)) := CS.F (i := 22) (x := ⟨"java/util/Iterator", "next", "()Ljava/lang/Object;"⟩) mk_J28_next ⟨by decide, Or.inl rfl, rfl⟩ (by decide) q1800 q581 q579 q512 q511 q582 q580 q503 (by decide +kernel) (by decide +kernel)
theorem clv_0_27 : (fun e : Instr × Nat × Nat × Nat × Nat => CS RX0 e.1 e.2.1 e.2.2.1 e.2.2.2.1 (mth e.2.2.2.2)) (((.invokeinterface 41 2), 5, 19, 2, 302)) := CS.F (i := 18) (x := ⟨"java/util/Collection", "contains", "(Ljava/lang/Object;)Z"⟩) mk_J14_contains ⟨by decide, Or.inl rfl, rfl⟩ (by decide) q1802 q1839 q1837 q1804 q1803 q1840 q1838 q789 (by decide +kernel) (by decide +kernel)
theorem clv_0_28 : (fun e : Instr × Nat × Nat × Nat × Nat => CS RX0 e.1 e.2.1 e.2.2.1 e.2.2.2.1 (mth e.2.2.2.2)) (((.invokevirtual 212), 3, 4, 2, 80)) := CS.V (i := 3) mk_X3_begin ⟨by decide, Or.inl rfl, rfl⟩ rfl q1874 q1875 q1876 (by decide +kernel) (by decide +kernel)
theorem clv_0_29 : (fun e : Instr × Nat × Nat × Nat × Nat => CS RX0 e.1 e.2.1 e.2.2.1 e.2.2.2.1 (mth e.2.2.2.2)) (((.invokevirtual 224), 3, 19, 1, 299)) := CS.U (i := 18) (owner := "java/util/HashSet") (x := ⟨"java/util/LinkedHashSet", "iterator", "()Ljava/util/Iterator;"⟩) mk_J14_iterator ⟨by decide, Or.inl rfl, rfl⟩ rfl q1924 q1608 q792 q1610 (by decide +kernel) (by decide +kernel)
theorem clv_0_30 : (fun e : Instr × Nat × Nat × Nat × Nat => CS RX0 e.1 e.2.1 e.2.2.1 e.2.2.2.1 (mth e.2.2.2.2)) (((.invokevirtual 233), 3, 18, 3, 283)) := CS.V (i := 17) mk_J12_put ⟨by decide, Or.inl rfl, rfl⟩ rfl q1944 q1945 q1946 (by decide +kernel) (by decide +kernel)
theorem clv_0_31 : (fun e : Instr × Nat × Nat × Nat × Nat => CS RX0 e.1 e.2.1 e.2.2.1 e.2.2.2.1 (mth e.2.2.2.2)) (((.invokevirtual 237), 3, 18, 1, 296)) := CS.V (i := 17) mk_J12_values ⟨by decide, Or.inl rfl, rfl⟩ rfl q2054 q2055 q2056 (by decide +kernel) (by decide +kernel)
theorem clv_0_32 : (fun e : Instr × Nat × Nat × Nat × Nat => CS RX0 e.1 e.2.1 e.2.2.1 e.2.2.2.1 (mth e.2.2.2.2)) (((.invokevirtual 241), 3, 20, 1, 309)) := CS.V (i := 19) mk_J18_intValue ⟨by decide, Or.inl rfl, rfl⟩ rfl q2068 q1410 q1411 (by decide +kernel) (by decide +kernel)
theorem clv_0_33 : (fun e : Instr × Nat × Nat × Nat × Nat => CS RX0 e.1 e.2.1 e.2.2.1 e.2.2.2.1 (mth e.2.2.2.2)) (((.invokevirtual 241), 3, 220, 1, 309)) := CS.V (i := 19) mk_J18_intValue ⟨by decide, Or.inr rfl, rfl⟩ rfl q2068 q1410 q1411 (by decide +kernel) (by decide +kernel)
theorem clv_0_34 : (fun e : Instr × Nat × Nat × Nat × Nat => CS RX0 e.1 e.2.1 e.2.2.1 e.2.2.2.1 (mth e.2.2.2.2)) (((.invokevirtual 305), 3, 1, 3, 18)) := CS.V (i := 0) mk_X0_act ⟨by decide, Or.inl rfl, rfl⟩ rfl q2073 q2075 qs18 (by decide +kernel) (by decide +kernel)
theorem clv_0_35 : (fun e : Instr × Nat × Nat × Nat × Nat => CS RX0 e.1 e.2.1 e.2.2.1 e.2.2.2.1 (mth e.2.2.2.2)) (((.invokevirtual 298), 3, 1, 4, 19)) := CS.V (i := 0) mk_X0_refuses ⟨by decide, Or.inl rfl, rfl⟩ rfl q2077 q2079 qs19 (by decide +kernel) (by decide +kernel)
theorem clv_0_36 : (fun e : Instr × Nat × Nat × Nat × Nat => CS RX0 e.1 e.2.1 e.2.2.1 e.2.2.2.1 (mth e.2.2.2.2)) (((.invokevirtual 302), 3, 1, 4, 23)) := CS.V (i := 0) mk_X0_make ⟨by decide, Or.inl rfl, rfl⟩ rfl q2162 q2164 qs32 (by decide +kernel) (by decide +kernel)
theorem clv_0_37 : (fun e : Instr × Nat × Nat × Nat × Nat => CS RX0 e.1 e.2.1 e.2.2.1 e.2.2.2.1 (mth e.2.2.2.2)) (((.invokevirtual 248), 3, 1, 4, 20)) := CS.V (i := 0) mk_X0_findOn ⟨by decide, Or.inl rfl, rfl⟩ rfl q2081 q2083 qs20 (by decide +kernel) (by decide +kernel)
theorem clv_0_38 : (fun e : Instr × Nat × Nat × Nat × Nat => CS RX0 e.1 e.2.1 e.2.2.1 e.2.2.2.1 (mth e.2.2.2.2)) (((.invokevirtual 252), 3, 1, 3, 22)) := CS.V (i := 0) mk_X0_refusesDig ⟨by decide, Or.inl rfl, rfl⟩ rfl q2139 q2141 qs31 (by decide +kernel) (by decide +kernel)
theorem clv_0_39 : (fun e : Instr × Nat × Nat × Nat × Nat => CS RX0 e.1 e.2.1 e.2.2.1 e.2.2.2.1 (mth e.2.2.2.2)) (((.invokevirtual 261), 3, 2, 2, 57)) := CS.V (i := 1) mk_X1_canAppeal ⟨by decide, Or.inl rfl, rfl⟩ rfl q2154 q2155 q2156 (by decide +kernel) (by decide +kernel)
theorem clv_0_40 : (fun e : Instr × Nat × Nat × Nat × Nat => CS RX0 e.1 e.2.1 e.2.2.1 e.2.2.2.1 (mth e.2.2.2.2)) (((.invokevirtual 265), 3, 2, 1, 58)) := CS.V (i := 1) mk_X1_appeals ⟨by decide, Or.inl rfl, rfl⟩ rfl q2158 q2159 q2160 (by decide +kernel) (by decide +kernel)
theorem clv_0_41 : (fun e : Instr × Nat × Nat × Nat × Nat => CS RX0 e.1 e.2.1 e.2.2.1 e.2.2.2.1 (mth e.2.2.2.2)) (((.invokevirtual 244), 3, 4, 3, 81)) := CS.V (i := 3) mk_X3_find ⟨by decide, Or.inl rfl, rfl⟩ rfl q2085 q2086 q2087 (by decide +kernel) (by decide +kernel)
theorem clv_0_42 : (fun e : Instr × Nat × Nat × Nat × Nat => CS RX0 e.1 e.2.1 e.2.2.1 e.2.2.2.1 (mth e.2.2.2.2)) (((.invokevirtual 274), 3, 4, 1, 92)) := CS.V (i := 3) mk_X3_victimSet ⟨by decide, Or.inl rfl, rfl⟩ rfl q2143 q2144 q2145 (by decide +kernel) (by decide +kernel)
theorem clv_0_43 : (fun e : Instr × Nat × Nat × Nat × Nat => CS RX0 e.1 e.2.1 e.2.2.1 e.2.2.2.1 (mth e.2.2.2.2)) (((.invokevirtual 280), 3, 2, 3, 59)) := CS.V (i := 1) mk_X1_makeLay ⟨by decide, Or.inl rfl, rfl⟩ rfl q2166 q2167 q2168 (by decide +kernel) (by decide +kernel)
theorem clv_0_44 : (fun e : Instr × Nat × Nat × Nat × Nat => CS RX0 e.1 e.2.1 e.2.2.1 e.2.2.2.1 (mth e.2.2.2.2)) (((.invokevirtual 284), 3, 2, 3, 61)) := CS.V (i := 1) mk_X1_makeDig ⟨by decide, Or.inl rfl, rfl⟩ rfl q2180 q2181 q2182 (by decide +kernel) (by decide +kernel)
theorem clv_0_45 : (fun e : Instr × Nat × Nat × Nat × Nat => CS RX0 e.1 e.2.1 e.2.2.1 e.2.2.2.1 (mth e.2.2.2.2)) (((.invokevirtual 287), 3, 2, 2, 63)) := CS.V (i := 1) mk_X1_makeRip ⟨by decide, Or.inl rfl, rfl⟩ rfl q2236 q2237 q2238 (by decide +kernel) (by decide +kernel)
theorem clv_0_46 : (fun e : Instr × Nat × Nat × Nat × Nat => CS RX0 e.1 e.2.1 e.2.2.1 e.2.2.2.1 (mth e.2.2.2.2)) (((.invokevirtual 291), 3, 2, 2, 64)) := CS.V (i := 1) mk_X1_makeAppeal ⟨by decide, Or.inl rfl, rfl⟩ rfl q2241 q2242 q2243 (by decide +kernel) (by decide +kernel)
theorem clv_0_47 : (fun e : Instr × Nat × Nat × Nat × Nat => CS RX0 e.1 e.2.1 e.2.2.1 e.2.2.2.1 (mth e.2.2.2.2)) (((.invokevirtual 295), 3, 2, 1, 65)) := CS.V (i := 1) mk_X1_makeHear ⟨by decide, Or.inl rfl, rfl⟩ rfl q2246 q2247 q2248 (by decide +kernel) (by decide +kernel)
theorem clv_0_48 : (fun e : Instr × Nat × Nat × Nat × Nat => CS RX0 e.1 e.2.1 e.2.2.1 e.2.2.2.1 (mth e.2.2.2.2)) (((.invokevirtual 309), 3, 1, 3, 30)) := CS.V (i := 0) mk_X0_asked ⟨by decide, Or.inl rfl, rfl⟩ rfl q2386 q2388 qs39 (by decide +kernel) (by decide +kernel)
theorem clv_0_49 : (fun e : Instr × Nat × Nat × Nat × Nat => CS RX0 e.1 e.2.1 e.2.2.1 e.2.2.2.1 (mth e.2.2.2.2)) (((.invokevirtual 345), 3, 1, 1, 35)) := CS.V (i := 0) mk_X0_waiting ⟨by decide, Or.inl rfl, rfl⟩ rfl q2406 q2408 qs40 (by decide +kernel) (by decide +kernel)
theorem clv_0_50 : (fun e : Instr × Nat × Nat × Nat × Nat => CS RX0 e.1 e.2.1 e.2.2.1 e.2.2.2.1 (mth e.2.2.2.2)) (((.invokeinterface 335 1), 5, 12, 1, 215)) := CS.F (i := 11) (x := ⟨"java/util/List", "size", "()I"⟩) mk_J2_size ⟨by decide, Or.inl rfl, rfl⟩ (by decide) q2416 q1727 q2420 q2418 q2417 q2422 q2421 q2419 (by decide +kernel) (by decide +kernel)
theorem clv_0_51 : (fun e : Instr × Nat × Nat × Nat × Nat => CS RX0 e.1 e.2.1 e.2.2.1 e.2.2.2.1 (mth e.2.2.2.2)) (((.invokevirtual 353), 3, 1, 3, 38)) := CS.V (i := 0) mk_X0_joinedBy ⟨by decide, Or.inl rfl, rfl⟩ rfl q2429 q2431 qs41 (by decide +kernel) (by decide +kernel)
theorem clv_0_52 : (fun e : Instr × Nat × Nat × Nat × Nat => CS RX0 e.1 e.2.1 e.2.2.1 e.2.2.2.1 (mth e.2.2.2.2)) (((.invokeinterface 338 2), 5, 12, 2, 216)) := CS.F (i := 11) (x := ⟨"java/util/List", "get", "(I)Ljava/lang/Object;"⟩) mk_J2_get ⟨by decide, Or.inl rfl, rfl⟩ (by decide) q2434 q1752 q2437 q2436 q2435 q2439 q2438 q2419 (by decide +kernel) (by decide +kernel)
theorem clv_0_53 : (fun e : Instr × Nat × Nat × Nat × Nat => CS RX0 e.1 e.2.1 e.2.2.1 e.2.2.2.1 (mth e.2.2.2.2)) (((.invokevirtual 328), 3, 12, 1, 210)) := CS.V (i := 11) mk_J2_iterator ⟨by decide, Or.inl rfl, rfl⟩ rfl q2412 q443 q444 (by decide +kernel) (by decide +kernel)
theorem clv_0_54 : (fun e : Instr × Nat × Nat × Nat × Nat => CS RX0 e.1 e.2.1 e.2.2.1 e.2.2.2.1 (mth e.2.2.2.2)) (((.invokevirtual 329), 3, 12, 1, 215)) := CS.V (i := 11) mk_J2_size ⟨by decide, Or.inl rfl, rfl⟩ rfl q2413 q1727 q1728 (by decide +kernel) (by decide +kernel)
theorem clv_0_55 : (fun e : Instr × Nat × Nat × Nat × Nat => CS RX0 e.1 e.2.1 e.2.2.1 e.2.2.2.1 (mth e.2.2.2.2)) (((.invokevirtual 330), 3, 12, 2, 211)) := CS.V (i := 11) mk_J2_add ⟨by decide, Or.inl rfl, rfl⟩ rfl q2414 q1508 q1509 (by decide +kernel) (by decide +kernel)
theorem clv_0_56 : (fun e : Instr × Nat × Nat × Nat × Nat => CS RX0 e.1 e.2.1 e.2.2.1 e.2.2.2.1 (mth e.2.2.2.2)) (((.invokevirtual 341), 3, 4, 2, 93)) := CS.V (i := 3) mk_X3_settle ⟨by decide, Or.inl rfl, rfl⟩ rfl q2440 q2441 q2442 (by decide +kernel) (by decide +kernel)
theorem clv_0_57 : (fun e : Instr × Nat × Nat × Nat × Nat => CS RX0 e.1 e.2.1 e.2.2.1 e.2.2.2.1 (mth e.2.2.2.2)) (((.invokevirtual 370), 3, 7, 1, 185)) := CS.V (i := 6) mk_X6_many ⟨by decide, Or.inl rfl, rfl⟩ rfl q2451 q1983 q1984 (by decide +kernel) (by decide +kernel)
theorem clv_0_58 : (fun e : Instr × Nat × Nat × Nat × Nat => CS RX0 e.1 e.2.1 e.2.2.1 e.2.2.2.1 (mth e.2.2.2.2)) (((.invokevirtual 379), 3, 7, 2, 184)) := CS.V (i := 6) mk_X6_loss ⟨by decide, Or.inl rfl, rfl⟩ rfl q2453 q1979 q1980 (by decide +kernel) (by decide +kernel)
theorem clv_0_59 : (fun e : Instr × Nat × Nat × Nat × Nat => CS RX0 e.1 e.2.1 e.2.2.1 e.2.2.2.1 (mth e.2.2.2.2)) (((.invokevirtual 388), 3, 2, 1, 66)) := CS.V (i := 1) mk_X1_docket ⟨by decide, Or.inl rfl, rfl⟩ rfl q2458 q2251 q2252 (by decide +kernel) (by decide +kernel)
theorem clv_0_60 : (fun e : Instr × Nat × Nat × Nat × Nat => CS RX0 e.1 e.2.1 e.2.2.1 e.2.2.2.1 (mth e.2.2.2.2)) (((.invokevirtual 392), 3, 9, 1, 195)) := CS.V (i := 8) mk_X8_next ⟨by decide, Or.inl rfl, rfl⟩ rfl q2459 q2333 q2334 (by decide +kernel) (by decide +kernel)
theorem clv_0_61 : (fun e : Instr × Nat × Nat × Nat × Nat => CS RX0 e.1 e.2.1 e.2.2.1 e.2.2.2.1 (mth e.2.2.2.2)) (((.invokevirtual 396), 3, 2, 1, 69)) := CS.V (i := 1) mk_X1_wrongedNets ⟨by decide, Or.inl rfl, rfl⟩ rfl q2464 q2465 q2466 (by decide +kernel) (by decide +kernel)
theorem clv_0_62 : (fun e : Instr × Nat × Nat × Nat × Nat => CS RX0 e.1 e.2.1 e.2.2.1 e.2.2.2.1 (mth e.2.2.2.2)) (((.invokevirtual 399), 3, 2, 1, 70)) := CS.V (i := 1) mk_X1_joinedMany ⟨by decide, Or.inl rfl, rfl⟩ rfl q2472 q2473 q2474 (by decide +kernel) (by decide +kernel)
theorem clv_0_63 : (fun e : Instr × Nat × Nat × Nat × Nat => CS RX0 e.1 e.2.1 e.2.2.1 e.2.2.2.1 (mth e.2.2.2.2)) (((.invokevirtual 402), 3, 1, 1, 43)) := CS.V (i := 0) mk_X0_freeCells ⟨by decide, Or.inl rfl, rfl⟩ rfl q2476 q2478 qs42 (by decide +kernel) (by decide +kernel)
theorem clv_0_64 : (fun e : Instr × Nat × Nat × Nat × Nat => CS RX0 e.1 e.2.1 e.2.2.1 e.2.2.2.1 (mth e.2.2.2.2)) (((.invokevirtual 405), 3, 2, 1, 71)) := CS.V (i := 1) mk_X1_purses ⟨by decide, Or.inl rfl, rfl⟩ rfl q2480 q2481 q2482 (by decide +kernel) (by decide +kernel)
theorem clv_0_65 : (fun e : Instr × Nat × Nat × Nat × Nat => CS RX0 e.1 e.2.1 e.2.2.1 e.2.2.2.1 (mth e.2.2.2.2)) (((.invokevirtual 411), 3, 2, 1, 72)) := CS.V (i := 1) mk_X1_crossings ⟨by decide, Or.inl rfl, rfl⟩ rfl q2500 q2501 q2502 (by decide +kernel) (by decide +kernel)
theorem clv_0_66 : (fun e : Instr × Nat × Nat × Nat × Nat => CS RX0 e.1 e.2.1 e.2.2.1 e.2.2.2.1 (mth e.2.2.2.2)) (((.invokevirtual 414), 3, 15, 1, 266)) := CS.V (i := 14) mk_J8_length ⟨by decide, Or.inl rfl, rfl⟩ rfl q2517 q2518 q2519 (by decide +kernel) (by decide +kernel)
theorem clv_0_67 : (fun e : Instr × Nat × Nat × Nat × Nat => CS RX0 e.1 e.2.1 e.2.2.1 e.2.2.2.1 (mth e.2.2.2.2)) (((.invokeinterface 19 1), 5, 6, 1, 179)) := CS.F (i := 5) (x := ⟨"WireDigs$Counted", "many", "()I"⟩) mk_X5_many ⟨by decide, Or.inl rfl, rfl⟩ (by decide) q2489 q1774 q2497 q2491 q2490 q2499 q2498 q2496 (by decide +kernel) (by decide +kernel)
theorem clv_0_68 : (fun e : Instr × Nat × Nat × Nat × Nat => CS RX0 e.1 e.2.1 e.2.2.1 e.2.2.2.1 (mth e.2.2.2.2)) (((.invokeinterface 19 1), 5, 7, 1, 185)) := CS.F (i := 6) (x := ⟨"WireDigs$Counted", "many", "()I"⟩) mk_X6_many ⟨by decide, Or.inl rfl, rfl⟩ (by decide) q2489 q1983 q2493 q2491 q2490 q2495 q2494 q2492 (by decide +kernel) (by decide +kernel)
theorem clv_0_69 : (fun e : Instr × Nat × Nat × Nat × Nat => CS RX0 e.1 e.2.1 e.2.2.1 e.2.2.2.1 (mth e.2.2.2.2)) (((.invokevirtual 419), 3, 14, 1, 246)) := CS.V (i := 13) mk_J6_isEmpty ⟨by decide, Or.inl rfl, rfl⟩ rfl q2529 q500 q501 (by decide +kernel) (by decide +kernel)
theorem clv_0_70 : (fun e : Instr × Nat × Nat × Nat × Nat => CS RX0 e.1 e.2.1 e.2.2.1 e.2.2.2.1 (mth e.2.2.2.2)) (((.invokevirtual 422), 3, 14, 1, 254)) := CS.V (i := 13) mk_J6_removeLast ⟨by decide, Or.inl rfl, rfl⟩ rfl q2530 q2531 q2532 (by decide +kernel) (by decide +kernel)
theorem clv_0_71 : (fun e : Instr × Nat × Nat × Nat × Nat => CS RX0 e.1 e.2.1 e.2.2.1 e.2.2.2.1 (mth e.2.2.2.2)) (((.invokevirtual 429), 3, 15, 2, 267)) := CS.V (i := 14) mk_J8_append ⟨by decide, Or.inl rfl, rfl⟩ rfl q2547 q2548 q2549 (by decide +kernel) (by decide +kernel)
theorem clv_0_72 : (fun e : Instr × Nat × Nat × Nat × Nat => CS RX0 e.1 e.2.1 e.2.2.1 e.2.2.2.1 (mth e.2.2.2.2)) (((.invokevirtual 433), 3, 15, 2, 268)) := CS.V (i := 14) mk_J8_setLength ⟨by decide, Or.inl rfl, rfl⟩ rfl q2611 q2612 q2613 (by decide +kernel) (by decide +kernel)
theorem clv_0_73 : (fun e : Instr × Nat × Nat × Nat × Nat => CS RX0 e.1 e.2.1 e.2.2.1 e.2.2.2.1 (mth e.2.2.2.2)) (((.invokevirtual 441), 3, 11, 1, 200)) := CS.V (i := 10) mk_X10_isWell ⟨by decide, Or.inl rfl, rfl⟩ rfl q2666 q2667 q2668 (by decide +kernel) (by decide +kernel)
theorem clv_0_ok : ∀ e ∈ clv_0, CS RX0 e.1 e.2.1 e.2.2.1 e.2.2.2.1 (mth e.2.2.2.2) := List.forall_mem_cons.mpr ⟨clv_0_0, List.forall_mem_cons.mpr ⟨clv_0_1, List.forall_mem_cons.mpr ⟨clv_0_2, List.forall_mem_cons.mpr ⟨clv_0_3, List.forall_mem_cons.mpr ⟨clv_0_4, List.forall_mem_cons.mpr ⟨clv_0_5, List.forall_mem_cons.mpr ⟨clv_0_6, List.forall_mem_cons.mpr ⟨clv_0_7, List.forall_mem_cons.mpr ⟨clv_0_8, List.forall_mem_cons.mpr ⟨clv_0_9, List.forall_mem_cons.mpr ⟨clv_0_10, List.forall_mem_cons.mpr ⟨clv_0_11, List.forall_mem_cons.mpr ⟨clv_0_12, List.forall_mem_cons.mpr ⟨clv_0_13, List.forall_mem_cons.mpr ⟨clv_0_14, List.forall_mem_cons.mpr ⟨clv_0_15, List.forall_mem_cons.mpr ⟨clv_0_16, List.forall_mem_cons.mpr ⟨clv_0_17, List.forall_mem_cons.mpr ⟨clv_0_18, List.forall_mem_cons.mpr ⟨clv_0_19, List.forall_mem_cons.mpr ⟨clv_0_20, List.forall_mem_cons.mpr ⟨clv_0_21, List.forall_mem_cons.mpr ⟨clv_0_22, List.forall_mem_cons.mpr ⟨clv_0_23, List.forall_mem_cons.mpr ⟨clv_0_24, List.forall_mem_cons.mpr ⟨clv_0_25, List.forall_mem_cons.mpr ⟨clv_0_26, List.forall_mem_cons.mpr ⟨clv_0_27, List.forall_mem_cons.mpr ⟨clv_0_28, List.forall_mem_cons.mpr ⟨clv_0_29, List.forall_mem_cons.mpr ⟨clv_0_30, List.forall_mem_cons.mpr ⟨clv_0_31, List.forall_mem_cons.mpr ⟨clv_0_32, List.forall_mem_cons.mpr ⟨clv_0_33, List.forall_mem_cons.mpr ⟨clv_0_34, List.forall_mem_cons.mpr ⟨clv_0_35, List.forall_mem_cons.mpr ⟨clv_0_36, List.forall_mem_cons.mpr ⟨clv_0_37, List.forall_mem_cons.mpr ⟨clv_0_38, List.forall_mem_cons.mpr ⟨clv_0_39, List.forall_mem_cons.mpr ⟨clv_0_40, List.forall_mem_cons.mpr ⟨clv_0_41, List.forall_mem_cons.mpr ⟨clv_0_42, List.forall_mem_cons.mpr ⟨clv_0_43, List.forall_mem_cons.mpr ⟨clv_0_44, List.forall_mem_cons.mpr ⟨clv_0_45, List.forall_mem_cons.mpr ⟨clv_0_46, List.forall_mem_cons.mpr ⟨clv_0_47, List.forall_mem_cons.mpr ⟨clv_0_48, List.forall_mem_cons.mpr ⟨clv_0_49, List.forall_mem_cons.mpr ⟨clv_0_50, List.forall_mem_cons.mpr ⟨clv_0_51, List.forall_mem_cons.mpr ⟨clv_0_52, List.forall_mem_cons.mpr ⟨clv_0_53, List.forall_mem_cons.mpr ⟨clv_0_54, List.forall_mem_cons.mpr ⟨clv_0_55, List.forall_mem_cons.mpr ⟨clv_0_56, List.forall_mem_cons.mpr ⟨clv_0_57, List.forall_mem_cons.mpr ⟨clv_0_58, List.forall_mem_cons.mpr ⟨clv_0_59, List.forall_mem_cons.mpr ⟨clv_0_60, List.forall_mem_cons.mpr ⟨clv_0_61, List.forall_mem_cons.mpr ⟨clv_0_62, List.forall_mem_cons.mpr ⟨clv_0_63, List.forall_mem_cons.mpr ⟨clv_0_64, List.forall_mem_cons.mpr ⟨clv_0_65, List.forall_mem_cons.mpr ⟨clv_0_66, List.forall_mem_cons.mpr ⟨clv_0_67, List.forall_mem_cons.mpr ⟨clv_0_68, List.forall_mem_cons.mpr ⟨clv_0_69, List.forall_mem_cons.mpr ⟨clv_0_70, List.forall_mem_cons.mpr ⟨clv_0_71, List.forall_mem_cons.mpr ⟨clv_0_72, List.forall_mem_cons.mpr ⟨clv_0_73, fun _ h => absurd h List.not_mem_nil⟩⟩⟩⟩⟩⟩⟩⟩⟩⟩⟩⟩⟩⟩⟩⟩⟩⟩⟩⟩⟩⟩⟩⟩⟩⟩⟩⟩⟩⟩⟩⟩⟩⟩⟩⟩⟩⟩⟩⟩⟩⟩⟩⟩⟩⟩⟩⟩⟩⟩⟩⟩⟩⟩⟩⟩⟩⟩⟩⟩⟩⟩⟩⟩⟩⟩⟩⟩⟩⟩⟩⟩⟩⟩
def klk_0 : List (Nat × Nat) := [(164, 6), (31, 8), (228, 20), (228, 220), (259, 7), (17, 6), (17, 7), (51, 2)]
theorem klk_0_0 : (fun e : Nat × Nat => CG RX0 e.1 e.2) ((164, 6)) := ⟨5, (RX5, TX5, 9), _, by decide, Or.inl rfl, rfl, q1735, Or.inl ⟨rfl, by decide⟩⟩
theorem klk_0_1 : (fun e : Nat × Nat => CG RX0 e.1 e.2) ((31, 8)) := ⟨7, (RX7, TX7, 1), _, by decide, Or.inl rfl, rfl, q1661, Or.inl ⟨rfl, by decide⟩⟩
theorem klk_0_2 : (fun e : Nat × Nat => CG RX0 e.1 e.2) ((228, 20)) := ⟨19, (RJ18, TJ18, 1), _, by decide, Or.inl rfl, rfl, q2053, Or.inl ⟨rfl, by decide⟩⟩
theorem klk_0_3 : (fun e : Nat × Nat => CG RX0 e.1 e.2) ((228, 220)) := ⟨19, (RJ18, TJ18, 1), _, by decide, Or.inr rfl, rfl, q2053, Or.inl ⟨rfl, by decide⟩⟩
theorem klk_0_4 : (fun e : Nat × Nat => CG RX0 e.1 e.2) ((259, 7)) := ⟨6, (RX6, TX6, 7), _, by decide, Or.inl rfl, rfl, q2153, Or.inl ⟨rfl, by decide⟩⟩
theorem klk_0_5 : (fun e : Nat × Nat => CG RX0 e.1 e.2) ((17, 6)) := ⟨5, (RX5, TX5, 9), _, by decide, Or.inl rfl, rfl, q2487, Or.inr q2496⟩
theorem klk_0_6 : (fun e : Nat × Nat => CG RX0 e.1 e.2) ((17, 7)) := ⟨6, (RX6, TX6, 7), _, by decide, Or.inl rfl, rfl, q2487, Or.inr q2492⟩
theorem klk_0_7 : (fun e : Nat × Nat => CG RX0 e.1 e.2) ((51, 2)) := ⟨1, (RX1, TX1, 6), _, by decide, Or.inl rfl, rfl, q165, Or.inl ⟨rfl, by decide⟩⟩
theorem klk_0_ok : ∀ e ∈ klk_0, CG RX0 e.1 e.2 := List.forall_mem_cons.mpr ⟨klk_0_0, List.forall_mem_cons.mpr ⟨klk_0_1, List.forall_mem_cons.mpr ⟨klk_0_2, List.forall_mem_cons.mpr ⟨klk_0_3, List.forall_mem_cons.mpr ⟨klk_0_4, List.forall_mem_cons.mpr ⟨klk_0_5, List.forall_mem_cons.mpr ⟨klk_0_6, List.forall_mem_cons.mpr ⟨klk_0_7, fun _ h => absurd h List.not_mem_nil⟩⟩⟩⟩⟩⟩⟩⟩
def ilk_0 : List (Nat × Nat) := []
theorem ilk_0_ok : ∀ e ∈ ilk_0, CG RX0 e.1 e.2 := fun _ h => absurd h List.not_mem_nil
def slk_0 : List (Nat × Nat) := []
theorem slk_0_ok : ∀ e ∈ slk_0, GS RX0 e.1 e.2 := fun _ h => absurd h List.not_mem_nil
def alk_0 : List (Nat × Nat) := []
theorem alk_0_ok : ∀ e ∈ alk_0, AG RX0 e.1 e.2 := fun _ h => absurd h List.not_mem_nil
def dlk_0 : List (Nat × Int) := [(100, -1000001), (138, -1000002), (162, -1000003), (183, 100000), (189, -1000004)]
theorem dlk_0_0 : (fun e : Nat × Int => Cond.constant RX0 e.1 (iI e.2) ∈ lw_all) ((100, -1000001)) := q434
theorem dlk_0_1 : (fun e : Nat × Int => Cond.constant RX0 e.1 (iI e.2) ∈ lw_all) ((138, -1000002)) := q1704
theorem dlk_0_2 : (fun e : Nat × Int => Cond.constant RX0 e.1 (iI e.2) ∈ lw_all) ((162, -1000003)) := q1730
theorem dlk_0_3 : (fun e : Nat × Int => Cond.constant RX0 e.1 (iI e.2) ∈ lw_all) ((183, 100000)) := q1766
theorem dlk_0_4 : (fun e : Nat × Int => Cond.constant RX0 e.1 (iI e.2) ∈ lw_all) ((189, -1000004)) := q1772
theorem dlk_0_ok : ∀ e ∈ dlk_0, Cond.constant RX0 e.1 (iI e.2) ∈ lw_all := List.forall_mem_cons.mpr ⟨dlk_0_0, List.forall_mem_cons.mpr ⟨dlk_0_1, List.forall_mem_cons.mpr ⟨dlk_0_2, List.forall_mem_cons.mpr ⟨dlk_0_3, List.forall_mem_cons.mpr ⟨dlk_0_4, fun _ h => absurd h List.not_mem_nil⟩⟩⟩⟩⟩
def d2k_0 : List (Nat × Int) := [(92, 20), (94, 50), (109, 80), (146, 9), (148, 9999), (184, 10), (210, 161), (25, 8), (362, 7), (417, 23), (425, 32), (427, 126)]
theorem d2k_0_0 : (fun e : Nat × Int => Cond.constantLong RX0 e.1 (lI e.2) ∈ lw_all) ((92, 20)) := q429
theorem d2k_0_1 : (fun e : Nat × Int => Cond.constantLong RX0 e.1 (lI e.2) ∈ lw_all) ((94, 50)) := q433
theorem d2k_0_2 : (fun e : Nat × Int => Cond.constantLong RX0 e.1 (lI e.2) ∈ lw_all) ((109, 80)) := q1656
theorem d2k_0_3 : (fun e : Nat × Int => Cond.constantLong RX0 e.1 (lI e.2) ∈ lw_all) ((146, 9)) := q1716
theorem d2k_0_4 : (fun e : Nat × Int => Cond.constantLong RX0 e.1 (lI e.2) ∈ lw_all) ((148, 9999)) := q1717
theorem d2k_0_5 : (fun e : Nat × Int => Cond.constantLong RX0 e.1 (lI e.2) ∈ lw_all) ((184, 10)) := q1771
theorem d2k_0_6 : (fun e : Nat × Int => Cond.constantLong RX0 e.1 (lI e.2) ∈ lw_all) ((210, 161)) := q1873
theorem d2k_0_7 : (fun e : Nat × Int => Cond.constantLong RX0 e.1 (lI e.2) ∈ lw_all) ((25, 8)) := q2119
theorem d2k_0_8 : (fun e : Nat × Int => Cond.constantLong RX0 e.1 (lI e.2) ∈ lw_all) ((362, 7)) := q2450
theorem d2k_0_9 : (fun e : Nat × Int => Cond.constantLong RX0 e.1 (lI e.2) ∈ lw_all) ((417, 23)) := q2524
theorem d2k_0_10 : (fun e : Nat × Int => Cond.constantLong RX0 e.1 (lI e.2) ∈ lw_all) ((425, 32)) := q2545
theorem d2k_0_11 : (fun e : Nat × Int => Cond.constantLong RX0 e.1 (lI e.2) ∈ lw_all) ((427, 126)) := q2546
theorem d2k_0_ok : ∀ e ∈ d2k_0, Cond.constantLong RX0 e.1 (lI e.2) ∈ lw_all := List.forall_mem_cons.mpr ⟨d2k_0_0, List.forall_mem_cons.mpr ⟨d2k_0_1, List.forall_mem_cons.mpr ⟨d2k_0_2, List.forall_mem_cons.mpr ⟨d2k_0_3, List.forall_mem_cons.mpr ⟨d2k_0_4, List.forall_mem_cons.mpr ⟨d2k_0_5, List.forall_mem_cons.mpr ⟨d2k_0_6, List.forall_mem_cons.mpr ⟨d2k_0_7, List.forall_mem_cons.mpr ⟨d2k_0_8, List.forall_mem_cons.mpr ⟨d2k_0_9, List.forall_mem_cons.mpr ⟨d2k_0_10, List.forall_mem_cons.mpr ⟨d2k_0_11, fun _ h => absurd h List.not_mem_nil⟩⟩⟩⟩⟩⟩⟩⟩⟩⟩⟩⟩
def fck_0 : List (Nat × UInt32) := []
theorem fck_0_ok : ∀ e ∈ fck_0, Cond.constantFloat RX0 e.1 e.2 ∈ lw_all := fun _ h => absurd h List.not_mem_nil
def flk_1 : List (Nat × Nat × Nat) := [(14, 2, 0), (38, 3, 0), (20, 2, 1), (30, 2, 3), (34, 2, 4), (81, 2, 5), (85, 6, 3), (26, 2, 2), (102, 6, 0), (105, 6, 1), (108, 8, 0), (189, 6, 2), (194, 7, 6), (197, 7, 3), (157, 4, 8), (137, 4, 7), (142, 4, 3), (163, 4, 4), (180, 6, 6), (186, 4, 9), (235, 7, 1), (238, 7, 2), (245, 7, 5), (113, 6, 4), (109, 6, 5), (257, 7, 4)]
theorem flk_1_0 : (fun e : Nat × Nat × Nat => FG RX1 e.1 e.2.1 e.2.2) ((14, 2, 0)) := FG.mk' (i := 1) (k := 0) (by decide) (by decide) rfl (by decide) (Or.inl q277) (Or.inl rfl) (Or.inl rfl)
theorem flk_1_1 : (fun e : Nat × Nat × Nat => FG RX1 e.1 e.2.1 e.2.2) ((38, 3, 0)) := FG.mk' (i := 2) (k := 0) (by decide) (by decide) rfl (by decide) (Or.inr ⟨_, q208⟩) (Or.inl rfl) (Or.inl rfl)
theorem flk_1_2 : (fun e : Nat × Nat × Nat => FG RX1 e.1 e.2.1 e.2.2) ((20, 2, 1)) := FG.mk' (i := 1) (k := 1) (by decide) (by decide) rfl (by decide) (Or.inl q281) (Or.inl rfl) (Or.inl rfl)
theorem flk_1_3 : (fun e : Nat × Nat × Nat => FG RX1 e.1 e.2.1 e.2.2) ((30, 2, 3)) := FG.mk' (i := 1) (k := 3) (by decide) (by decide) rfl (by decide) (Or.inl q286) (Or.inl rfl) (Or.inl rfl)
theorem flk_1_4 : (fun e : Nat × Nat × Nat => FG RX1 e.1 e.2.1 e.2.2) ((34, 2, 4)) := FG.mk' (i := 1) (k := 4) (by decide) (by decide) rfl (by decide) (Or.inl q288) (Or.inl rfl) (Or.inl rfl)
theorem flk_1_5 : (fun e : Nat × Nat × Nat => FG RX1 e.1 e.2.1 e.2.2) ((81, 2, 5)) := FG.mk' (i := 1) (k := 5) (by decide) (by decide) rfl (by decide) (Or.inl q291) (Or.inl rfl) (Or.inl rfl)
theorem flk_1_6 : (fun e : Nat × Nat × Nat => FG RX1 e.1 e.2.1 e.2.2) ((85, 6, 3)) := FG.mk' (i := 5) (k := 3) (by decide) (by decide) rfl (by decide) (Or.inr ⟨_, q649⟩) (Or.inl rfl) (Or.inl rfl)
theorem flk_1_7 : (fun e : Nat × Nat × Nat => FG RX1 e.1 e.2.1 e.2.2) ((26, 2, 2)) := FG.mk' (i := 1) (k := 2) (by decide) (by decide) rfl (by decide) (Or.inl q284) (Or.inl rfl) (Or.inl rfl)
theorem flk_1_8 : (fun e : Nat × Nat × Nat => FG RX1 e.1 e.2.1 e.2.2) ((102, 6, 0)) := FG.mk' (i := 5) (k := 0) (by decide) (by decide) rfl (by decide) (Or.inr ⟨_, q639⟩) (Or.inl rfl) (Or.inl rfl)
theorem flk_1_9 : (fun e : Nat × Nat × Nat => FG RX1 e.1 e.2.1 e.2.2) ((105, 6, 1)) := FG.mk' (i := 5) (k := 1) (by decide) (by decide) rfl (by decide) (Or.inr ⟨_, q642⟩) (Or.inl rfl) (Or.inl rfl)
theorem flk_1_10 : (fun e : Nat × Nat × Nat => FG RX1 e.1 e.2.1 e.2.2) ((108, 8, 0)) := FG.mk' (i := 7) (k := 0) (by decide) (by decide) rfl (by decide) (Or.inr ⟨_, q1669⟩) (Or.inl rfl) (Or.inl rfl)
theorem flk_1_11 : (fun e : Nat × Nat × Nat => FG RX1 e.1 e.2.1 e.2.2) ((189, 6, 2)) := FG.mk' (i := 5) (k := 2) (by decide) (by decide) rfl (by decide) (Or.inr ⟨_, q646⟩) (Or.inl rfl) (Or.inl rfl)
theorem flk_1_12 : (fun e : Nat × Nat × Nat => FG RX1 e.1 e.2.1 e.2.2) ((194, 7, 6)) := FG.mk' (i := 6) (k := 6) (by decide) (by decide) rfl (by decide) (Or.inr ⟨_, q1586⟩) (Or.inl rfl) (Or.inl rfl)
theorem flk_1_13 : (fun e : Nat × Nat × Nat => FG RX1 e.1 e.2.1 e.2.2) ((197, 7, 3)) := FG.mk' (i := 6) (k := 3) (by decide) (by decide) rfl (by decide) (Or.inr ⟨_, q1577⟩) (Or.inl rfl) (Or.inl rfl)
theorem flk_1_14 : (fun e : Nat × Nat × Nat => FG RX1 e.1 e.2.1 e.2.2) ((157, 4, 8)) := FG.mk' (i := 3) (k := 8) (by decide) (by decide) rfl (by decide) (Or.inr ⟨_, q381⟩) (Or.inl rfl) (Or.inl rfl)
theorem flk_1_15 : (fun e : Nat × Nat × Nat => FG RX1 e.1 e.2.1 e.2.2) ((137, 4, 7)) := FG.mk' (i := 3) (k := 7) (by decide) (by decide) rfl (by decide) (Or.inr ⟨_, q377⟩) (Or.inl rfl) (Or.inl rfl)
theorem flk_1_16 : (fun e : Nat × Nat × Nat => FG RX1 e.1 e.2.1 e.2.2) ((142, 4, 3)) := FG.mk' (i := 3) (k := 3) (by decide) (by decide) rfl (by decide) (Or.inr ⟨_, q371⟩) (Or.inl rfl) (Or.inl rfl)
theorem flk_1_17 : (fun e : Nat × Nat × Nat => FG RX1 e.1 e.2.1 e.2.2) ((163, 4, 4)) := FG.mk' (i := 3) (k := 4) (by decide) (by decide) rfl (by decide) (Or.inr ⟨_, q374⟩) (Or.inl rfl) (Or.inl rfl)
theorem flk_1_18 : (fun e : Nat × Nat × Nat => FG RX1 e.1 e.2.1 e.2.2) ((180, 6, 6)) := FG.mk' (i := 5) (k := 6) (by decide) (by decide) rfl (by decide) (Or.inr ⟨_, q658⟩) (Or.inl rfl) (Or.inl rfl)
theorem flk_1_19 : (fun e : Nat × Nat × Nat => FG RX1 e.1 e.2.1 e.2.2) ((186, 4, 9)) := FG.mk' (i := 3) (k := 9) (by decide) (by decide) rfl (by decide) (Or.inr ⟨_, q384⟩) (Or.inl rfl) (Or.inl rfl)
theorem flk_1_20 : (fun e : Nat × Nat × Nat => FG RX1 e.1 e.2.1 e.2.2) ((235, 7, 1)) := FG.mk' (i := 6) (k := 1) (by decide) (by decide) rfl (by decide) (Or.inr ⟨_, q1571⟩) (Or.inl rfl) (Or.inl rfl)
theorem flk_1_21 : (fun e : Nat × Nat × Nat => FG RX1 e.1 e.2.1 e.2.2) ((238, 7, 2)) := FG.mk' (i := 6) (k := 2) (by decide) (by decide) rfl (by decide) (Or.inr ⟨_, q1574⟩) (Or.inl rfl) (Or.inl rfl)
theorem flk_1_22 : (fun e : Nat × Nat × Nat => FG RX1 e.1 e.2.1 e.2.2) ((245, 7, 5)) := FG.mk' (i := 6) (k := 5) (by decide) (by decide) rfl (by decide) (Or.inr ⟨_, q1583⟩) (Or.inl rfl) (Or.inl rfl)
theorem flk_1_23 : (fun e : Nat × Nat × Nat => FG RX1 e.1 e.2.1 e.2.2) ((113, 6, 4)) := FG.mk' (i := 5) (k := 4) (by decide) (by decide) rfl (by decide) (Or.inr ⟨_, q652⟩) (Or.inl rfl) (Or.inl rfl)
theorem flk_1_24 : (fun e : Nat × Nat × Nat => FG RX1 e.1 e.2.1 e.2.2) ((109, 6, 5)) := FG.mk' (i := 5) (k := 5) (by decide) (by decide) rfl (by decide) (Or.inr ⟨_, q655⟩) (Or.inl rfl) (Or.inl rfl)
theorem flk_1_25 : (fun e : Nat × Nat × Nat => FG RX1 e.1 e.2.1 e.2.2) ((257, 7, 4)) := FG.mk' (i := 6) (k := 4) (by decide) (by decide) rfl (by decide) (Or.inr ⟨_, q1580⟩) (Or.inl rfl) (Or.inl rfl)
theorem flk_1_ok : ∀ e ∈ flk_1, FG RX1 e.1 e.2.1 e.2.2 := List.forall_mem_cons.mpr ⟨flk_1_0, List.forall_mem_cons.mpr ⟨flk_1_1, List.forall_mem_cons.mpr ⟨flk_1_2, List.forall_mem_cons.mpr ⟨flk_1_3, List.forall_mem_cons.mpr ⟨flk_1_4, List.forall_mem_cons.mpr ⟨flk_1_5, List.forall_mem_cons.mpr ⟨flk_1_6, List.forall_mem_cons.mpr ⟨flk_1_7, List.forall_mem_cons.mpr ⟨flk_1_8, List.forall_mem_cons.mpr ⟨flk_1_9, List.forall_mem_cons.mpr ⟨flk_1_10, List.forall_mem_cons.mpr ⟨flk_1_11, List.forall_mem_cons.mpr ⟨flk_1_12, List.forall_mem_cons.mpr ⟨flk_1_13, List.forall_mem_cons.mpr ⟨flk_1_14, List.forall_mem_cons.mpr ⟨flk_1_15, List.forall_mem_cons.mpr ⟨flk_1_16, List.forall_mem_cons.mpr ⟨flk_1_17, List.forall_mem_cons.mpr ⟨flk_1_18, List.forall_mem_cons.mpr ⟨flk_1_19, List.forall_mem_cons.mpr ⟨flk_1_20, List.forall_mem_cons.mpr ⟨flk_1_21, List.forall_mem_cons.mpr ⟨flk_1_22, List.forall_mem_cons.mpr ⟨flk_1_23, List.forall_mem_cons.mpr ⟨flk_1_24, List.forall_mem_cons.mpr ⟨flk_1_25, fun _ h => absurd h List.not_mem_nil⟩⟩⟩⟩⟩⟩⟩⟩⟩⟩⟩⟩⟩⟩⟩⟩⟩⟩⟩⟩⟩⟩⟩⟩⟩⟩
def plk_1 : List (Nat × Nat × Nat × FieldType × Bool) := [(14, 2, 0, tyX1 0, true), (20, 2, 1, tyX1 1, true), (26, 2, 2, tyX1 2, true), (30, 2, 3, tyX1 3, false), (34, 2, 4, tyX1 4, false), (81, 2, 5, tyX1 5, false), (109, 6, 5, tyX5 5, false), (180, 6, 6, tyX5 6, false), (194, 7, 6, tyX6 6, false), (245, 7, 5, tyX6 5, false)]
theorem plk_1_0 : (fun e : Nat × Nat × Nat × FieldType × Bool => PG RX1 e.1 e.2.1 e.2.2.1 e.2.2.2.1 e.2.2.2.2) ((14, 2, 0, tyX1 0, true)) := PG.mk' (i := 1) (k := 0) (by decide) (by decide) rfl (by decide) (Or.inl q277) (Or.inl rfl) rfl rfl (fun _ => rfl)
theorem plk_1_1 : (fun e : Nat × Nat × Nat × FieldType × Bool => PG RX1 e.1 e.2.1 e.2.2.1 e.2.2.2.1 e.2.2.2.2) ((20, 2, 1, tyX1 1, true)) := PG.mk' (i := 1) (k := 1) (by decide) (by decide) rfl (by decide) (Or.inl q281) (Or.inl rfl) rfl rfl (fun _ => rfl)
theorem plk_1_2 : (fun e : Nat × Nat × Nat × FieldType × Bool => PG RX1 e.1 e.2.1 e.2.2.1 e.2.2.2.1 e.2.2.2.2) ((26, 2, 2, tyX1 2, true)) := PG.mk' (i := 1) (k := 2) (by decide) (by decide) rfl (by decide) (Or.inl q284) (Or.inl rfl) rfl rfl (fun _ => rfl)
theorem plk_1_3 : (fun e : Nat × Nat × Nat × FieldType × Bool => PG RX1 e.1 e.2.1 e.2.2.1 e.2.2.2.1 e.2.2.2.2) ((30, 2, 3, tyX1 3, false)) := PG.mk' (i := 1) (k := 3) (by decide) (by decide) rfl (by decide) (Or.inl q286) (Or.inl rfl) rfl rfl (fun h => by cases h)
theorem plk_1_4 : (fun e : Nat × Nat × Nat × FieldType × Bool => PG RX1 e.1 e.2.1 e.2.2.1 e.2.2.2.1 e.2.2.2.2) ((34, 2, 4, tyX1 4, false)) := PG.mk' (i := 1) (k := 4) (by decide) (by decide) rfl (by decide) (Or.inl q288) (Or.inl rfl) rfl rfl (fun h => by cases h)
theorem plk_1_5 : (fun e : Nat × Nat × Nat × FieldType × Bool => PG RX1 e.1 e.2.1 e.2.2.1 e.2.2.2.1 e.2.2.2.2) ((81, 2, 5, tyX1 5, false)) := PG.mk' (i := 1) (k := 5) (by decide) (by decide) rfl (by decide) (Or.inl q291) (Or.inl rfl) rfl rfl (fun h => by cases h)
theorem plk_1_6 : (fun e : Nat × Nat × Nat × FieldType × Bool => PG RX1 e.1 e.2.1 e.2.2.1 e.2.2.2.1 e.2.2.2.2) ((109, 6, 5, tyX5 5, false)) := PG.mk' (i := 5) (k := 5) (by decide) (by decide) rfl (by decide) (Or.inr ⟨_, q655⟩) (Or.inl rfl) rfl rfl (fun h => by cases h)
theorem plk_1_7 : (fun e : Nat × Nat × Nat × FieldType × Bool => PG RX1 e.1 e.2.1 e.2.2.1 e.2.2.2.1 e.2.2.2.2) ((180, 6, 6, tyX5 6, false)) := PG.mk' (i := 5) (k := 6) (by decide) (by decide) rfl (by decide) (Or.inr ⟨_, q658⟩) (Or.inl rfl) rfl rfl (fun h => by cases h)
theorem plk_1_8 : (fun e : Nat × Nat × Nat × FieldType × Bool => PG RX1 e.1 e.2.1 e.2.2.1 e.2.2.2.1 e.2.2.2.2) ((194, 7, 6, tyX6 6, false)) := PG.mk' (i := 6) (k := 6) (by decide) (by decide) rfl (by decide) (Or.inr ⟨_, q1586⟩) (Or.inl rfl) rfl rfl (fun h => by cases h)
theorem plk_1_9 : (fun e : Nat × Nat × Nat × FieldType × Bool => PG RX1 e.1 e.2.1 e.2.2.1 e.2.2.2.1 e.2.2.2.2) ((245, 7, 5, tyX6 5, false)) := PG.mk' (i := 6) (k := 5) (by decide) (by decide) rfl (by decide) (Or.inr ⟨_, q1583⟩) (Or.inl rfl) rfl rfl (fun h => by cases h)
theorem plk_1_ok : ∀ e ∈ plk_1, PG RX1 e.1 e.2.1 e.2.2.1 e.2.2.2.1 e.2.2.2.2 := List.forall_mem_cons.mpr ⟨plk_1_0, List.forall_mem_cons.mpr ⟨plk_1_1, List.forall_mem_cons.mpr ⟨plk_1_2, List.forall_mem_cons.mpr ⟨plk_1_3, List.forall_mem_cons.mpr ⟨plk_1_4, List.forall_mem_cons.mpr ⟨plk_1_5, List.forall_mem_cons.mpr ⟨plk_1_6, List.forall_mem_cons.mpr ⟨plk_1_7, List.forall_mem_cons.mpr ⟨plk_1_8, List.forall_mem_cons.mpr ⟨plk_1_9, fun _ h => absurd h List.not_mem_nil⟩⟩⟩⟩⟩⟩⟩⟩⟩⟩
def nlk_1 : List (Nat × Nat) := [(9, 2), (23, 12), (58, 5), (67, 6), (92, 7), (203, 8), (205, 9)]
theorem nlk_1_0 : (fun e : Nat × Nat => NG RX1 e.1 e.2) ((9, 2)) := ⟨by decide, by decide, _, rfl, q171, q172, q100⟩
theorem nlk_1_1 : (fun e : Nat × Nat => NG RX1 e.1 e.2) ((23, 12)) := ⟨by decide, by decide, _, rfl, q216, q217, q106⟩
theorem nlk_1_2 : (fun e : Nat × Nat => NG RX1 e.1 e.2) ((58, 5)) := ⟨by decide, by decide, _, rfl, q593, q594, q116⟩
theorem nlk_1_3 : (fun e : Nat × Nat => NG RX1 e.1 e.2) ((67, 6)) := ⟨by decide, by decide, _, rfl, q1548, q1549, q145⟩
theorem nlk_1_4 : (fun e : Nat × Nat => NG RX1 e.1 e.2) ((92, 7)) := ⟨by decide, by decide, _, rfl, q1611, q1662, q146⟩
theorem nlk_1_5 : (fun e : Nat × Nat => NG RX1 e.1 e.2) ((203, 8)) := ⟨by decide, by decide, _, rfl, q2254, q2255, q151⟩
theorem nlk_1_6 : (fun e : Nat × Nat => NG RX1 e.1 e.2) ((205, 9)) := ⟨by decide, by decide, _, rfl, q2256, q2257, q152⟩
theorem nlk_1_ok : ∀ e ∈ nlk_1, NG RX1 e.1 e.2 := List.forall_mem_cons.mpr ⟨nlk_1_0, List.forall_mem_cons.mpr ⟨nlk_1_1, List.forall_mem_cons.mpr ⟨nlk_1_2, List.forall_mem_cons.mpr ⟨nlk_1_3, List.forall_mem_cons.mpr ⟨nlk_1_4, List.forall_mem_cons.mpr ⟨nlk_1_5, List.forall_mem_cons.mpr ⟨nlk_1_6, fun _ h => absurd h List.not_mem_nil⟩⟩⟩⟩⟩⟩⟩
def cls_1 : List (Nat × Nat × Nat) := [(248, 2, 335), (254, 2, 334)]
theorem cls_1_0 : (fun e : Nat × Nat × Nat => CS RX1 (.invokestatic e.1) 3 0 e.2.1 (mth e.2.2)) ((248, 2, 335)) := CS.S mk_J33_max q2347 q1527 (by decide +kernel) (by decide +kernel)
theorem cls_1_1 : (fun e : Nat × Nat × Nat => CS RX1 (.invokestatic e.1) 3 0 e.2.1 (mth e.2.2)) ((254, 2, 334)) := CS.S mk_J33_min q2348 q1194 (by decide +kernel) (by decide +kernel)
theorem cls_1_ok : ∀ e ∈ cls_1, CS RX1 (.invokestatic e.1) 3 0 e.2.1 (mth e.2.2) := List.forall_mem_cons.mpr ⟨cls_1_0, List.forall_mem_cons.mpr ⟨cls_1_1, fun _ h => absurd h List.not_mem_nil⟩⟩
def cli_1 : List (Nat × Nat × Nat) := [(3, 1, 354), (11, 2, 73), (25, 1, 233), (60, 2, 175), (69, 2, 182), (145, 2, 190), (177, 7, 183), (207, 2, 198), (210, 2, 193)]
theorem cli_1_0 : (fun e : Nat × Nat × Nat => ∀ tag, tag ≠ 0 → CS RX1 (.invokespecial e.1) 3 tag e.2.1 (mth e.2.2)) ((3, 1, 354)) := fun tag ht => CS.I mk_J45_init q170 q163 rfl rfl ht (by decide +kernel) (by decide +kernel)
theorem cli_1_1 : (fun e : Nat × Nat × Nat => ∀ tag, tag ≠ 0 → CS RX1 (.invokespecial e.1) 3 tag e.2.1 (mth e.2.2)) ((11, 2, 73)) := fun tag ht => CS.I mk_X2_init q173 q174 rfl rfl ht (by decide +kernel) (by decide +kernel)
theorem cli_1_2 : (fun e : Nat × Nat × Nat => ∀ tag, tag ≠ 0 → CS RX1 (.invokespecial e.1) 3 tag e.2.1 (mth e.2.2)) ((25, 1, 233)) := fun tag ht => CS.I mk_J5_init q218 q219 rfl rfl ht (by decide +kernel) (by decide +kernel)
theorem cli_1_3 : (fun e : Nat × Nat × Nat => ∀ tag, tag ≠ 0 → CS RX1 (.invokespecial e.1) 3 tag e.2.1 (mth e.2.2)) ((60, 2, 175)) := fun tag ht => CS.I mk_X5_init q595 q596 rfl rfl ht (by decide +kernel) (by decide +kernel)
theorem cli_1_4 : (fun e : Nat × Nat × Nat => ∀ tag, tag ≠ 0 → CS RX1 (.invokespecial e.1) 3 tag e.2.1 (mth e.2.2)) ((69, 2, 182)) := fun tag ht => CS.I mk_X6_init q1550 q1551 rfl rfl ht (by decide +kernel) (by decide +kernel)
theorem cli_1_5 : (fun e : Nat × Nat × Nat => ∀ tag, tag ≠ 0 → CS RX1 (.invokespecial e.1) 3 tag e.2.1 (mth e.2.2)) ((145, 2, 190)) := fun tag ht => CS.I mk_X7_init q2174 q1664 rfl rfl ht (by decide +kernel) (by decide +kernel)
theorem cli_1_6 : (fun e : Nat × Nat × Nat => ∀ tag, tag ≠ 0 → CS RX1 (.invokespecial e.1) 3 tag e.2.1 (mth e.2.2)) ((177, 7, 183)) := fun tag ht => CS.I mk_X6_init_2 q2191 q1554 rfl rfl ht (by decide +kernel) (by decide +kernel)
theorem cli_1_7 : (fun e : Nat × Nat × Nat => ∀ tag, tag ≠ 0 → CS RX1 (.invokespecial e.1) 3 tag e.2.1 (mth e.2.2)) ((207, 2, 198)) := fun tag ht => CS.I mk_X9_init q2258 q2259 rfl rfl ht (by decide +kernel) (by decide +kernel)
theorem cli_1_8 : (fun e : Nat × Nat × Nat => ∀ tag, tag ≠ 0 → CS RX1 (.invokespecial e.1) 3 tag e.2.1 (mth e.2.2)) ((210, 2, 193)) := fun tag ht => CS.I mk_X8_init q2266 q2267 rfl rfl ht (by decide +kernel) (by decide +kernel)
theorem cli_1_ok : ∀ e ∈ cli_1, ∀ tag, tag ≠ 0 → CS RX1 (.invokespecial e.1) 3 tag e.2.1 (mth e.2.2) := List.forall_mem_cons.mpr ⟨cli_1_0, List.forall_mem_cons.mpr ⟨cli_1_1, List.forall_mem_cons.mpr ⟨cli_1_2, List.forall_mem_cons.mpr ⟨cli_1_3, List.forall_mem_cons.mpr ⟨cli_1_4, List.forall_mem_cons.mpr ⟨cli_1_5, List.forall_mem_cons.mpr ⟨cli_1_6, List.forall_mem_cons.mpr ⟨cli_1_7, List.forall_mem_cons.mpr ⟨cli_1_8, fun _ h => absurd h List.not_mem_nil⟩⟩⟩⟩⟩⟩⟩⟩⟩
def clv_1 : List (Instr × Nat × Nat × Nat × Nat) := [((.invokevirtual 42), 3, 12, 1, 210), ((.invokeinterface 48 1), 5, 17, 1, 277), ((.invokeinterface 48 1), 5, 21, 1, 313), ((.invokeinterface 48 1), 5, 23, 1, 320), ((.invokeinterface 54 1), 5, 17, 1, 278), ((.invokeinterface 54 1), 5, 21, 1, 316), ((.invokeinterface 54 1), 5, 23, 1, 323), ((.invokevirtual 63), 3, 3, 2, 74), ((.invokevirtual 72), 3, 2, 2, 52), ((.invokevirtual 89), 3, 19, 1, 299), ((.invokevirtual 94), 3, 13, 3, 222), ((.invokevirtual 98), 3, 6, 2, 178), ((.invokevirtual 153), 3, 2, 3, 60), ((.invokevirtual 146), 3, 8, 1, 192), ((.invokevirtual 150), 3, 19, 2, 300), ((.invokevirtual 160), 3, 3, 1, 76), ((.invokevirtual 166), 3, 3, 2, 78), ((.invokevirtual 169), 3, 2, 2, 56), ((.invokevirtual 173), 3, 6, 3, 181), ((.invokevirtual 183), 3, 2, 2, 62), ((.invokevirtual 131), 3, 13, 2, 230), ((.invokevirtual 134), 3, 19, 1, 303), ((.invokevirtual 192), 3, 6, 1, 179), ((.invokevirtual 200), 3, 2, 1, 58), ((.invokevirtual 230), 3, 2, 1, 66), ((.invokevirtual 234), 3, 9, 1, 195), ((.invokevirtual 241), 3, 7, 2, 184), ((.invokevirtual 258), 3, 2, 2, 67), ((.invokevirtual 262), 3, 6, 2, 177), ((.invokevirtual 213), 3, 9, 2, 194), ((.invokeinterface 223 1), 5, 12, 1, 210), ((.invokeinterface 223 1), 5, 19, 1, 299), ((.invokeinterface 223 1), 5, 22, 1, 318), ((.invokeinterface 223 1), 5, 26, 1, 343), ((.invokevirtual 226), 3, 2, 2, 68), ((.invokevirtual 216), 3, 2, 2, 53), ((.invokevirtual 220), 3, 13, 2, 227), ((.invokevirtual 116), 3, 13, 1, 235), ((.invokeinterface 120 1), 5, 19, 1, 299), ((.invokeinterface 120 1), 5, 22, 1, 318), ((.invokevirtual 123), 3, 8, 1, 191), ((.invokevirtual 127), 3, 13, 2, 244)]
theorem clv_1_0 : (fun e : Instr × Nat × Nat × Nat × Nat => CS RX1 e.1 e.2.1 e.2.2.1 e.2.2.2.1 (mth e.2.2.2.2)) (((.invokevirtual 42), 3, 12, 1, 210)) := CS.V (i := 11) mk_J2_iterator ⟨by decide, Or.inl rfl, rfl⟩ rfl q442 q443 q444 (by decide +kernel) (by decide +kernel)
theorem clv_1_1 : (fun e : Instr × Nat × Nat × Nat × Nat => CS RX1 e.1 e.2.1 e.2.2.1 e.2.2.2.1 (mth e.2.2.2.2)) (((.invokeinterface 48 1), 5, 17, 1, 277)) := CS.F (i := 16) (x := ⟨"java/util/Iterator", "hasNext", "()Z"⟩) mk_J11_hasNext ⟨by decide, Or.inl rfl, rfl⟩ (by decide) q466 q478 q476 q468 q467 q479 q477 q475 (by decide +kernel) (by decide +kernel)
theorem clv_1_2 : (fun e : Instr × Nat × Nat × Nat × Nat => CS RX1 e.1 e.2.1 e.2.2.1 e.2.2.2.1 (mth e.2.2.2.2)) (((.invokeinterface 48 1), 5, 21, 1, 313)) := CS.F (i := 20) (x := ⟨"java/util/Iterator", "hasNext", "()Z"⟩) mk_J22_hasNext ⟨by decide, Or.inl rfl, rfl⟩ (by decide) q466 q490 q488 q468 q467 q491 q489 q487 (by decide +kernel) (by decide +kernel)
theorem clv_1_3 : (fun e : Instr × Nat × Nat × Nat × Nat => CS RX1 e.1 e.2.1 e.2.2.1 e.2.2.2.1 (mth e.2.2.2.2)) (((.invokeinterface 48 1), 5, 23, 1, 320)) := CS.F (i := 22) (x := ⟨"java/util/Iterator", "hasNext", "()Z"⟩) mk_J27_hasNext ⟨by decide, Or.inl rfl, rfl⟩ (by decide) q466 q506 q504 q468 q467 q507 q505 q503 (by decide +kernel) (by decide +kernel)
theorem clv_1_4 : (fun e : Instr × Nat × Nat × Nat × Nat => CS RX1 e.1 e.2.1 e.2.2.1 e.2.2.2.1 (mth e.2.2.2.2)) (((.invokeinterface 54 1), 5, 17, 1, 278)) := CS.F (i := 16) (x := ⟨"java/util/Iterator", "next", "()Ljava/lang/Object;"⟩) mk_J11_next ⟨by decide, Or.inl rfl, rfl⟩ (by decide) q510 q526 q524 q512 q511 q527 q525 q475 (by decide +kernel) (by decide +kernel)
theorem clv_1_5 : (fun e : Instr × Nat × Nat × Nat × Nat => CS RX1 e.1 e.2.1 e.2.2.1 e.2.2.2.1 (mth e.2.2.2.2)) (((.invokeinterface 54 1), 5, 21, 1, 316)) := CS.F (i := 20) (x := ⟨"java/util/Iterator", "next", "()Ljava/lang/Object;"⟩) mk_J23_next ⟨by decide, Or.inl rfl, rfl⟩ (by decide) q510 q546 q544 q512 q511 q547 q545 q487 (by decide +kernel) (by decide +kernel)
theorem clv_1_6 : (fun e : Instr × Nat × Nat × Nat × Nat => CS RX1 e.1 e.2.1 e.2.2.1 e.2.2.2.1 (mth e.2.2.2.2)) (((.invokeinterface 54 1), 5, 23, 1, 323)) := CS.F (i := 22) (x := ⟨"java/util/Iterator", "next", "()Ljava/lang/Object;"⟩) mk_J28_next ⟨by decide, Or.inl rfl, rfl⟩ (by decide) q510 q581 q579 q512 q511 q582 q580 q503 (by decide +kernel) (by decide +kernel)
theorem clv_1_7 : (fun e : Instr × Nat × Nat × Nat × Nat => CS RX1 e.1 e.2.1 e.2.2.1 e.2.2.2.1 (mth e.2.2.2.2)) (((.invokevirtual 63), 3, 3, 2, 74)) := CS.V (i := 2) mk_X2_add ⟨by decide, Or.inl rfl, rfl⟩ rfl q1503 q1504 q1505 (by decide +kernel) (by decide +kernel)
theorem clv_1_8 : (fun e : Instr × Nat × Nat × Nat × Nat => CS RX1 e.1 e.2.1 e.2.2.1 e.2.2.2.1 (mth e.2.2.2.2)) (((.invokevirtual 72), 3, 2, 2, 52)) := CS.V (i := 1) mk_X1_own ⟨by decide, Or.inl rfl, rfl⟩ rfl q1603 q1605 qs6 (by decide +kernel) (by decide +kernel)
theorem clv_1_9 : (fun e : Instr × Nat × Nat × Nat × Nat => CS RX1 e.1 e.2.1 e.2.2.1 e.2.2.2.1 (mth e.2.2.2.2)) (((.invokevirtual 89), 3, 19, 1, 299)) := CS.U (i := 18) (owner := "java/util/HashSet") (x := ⟨"java/util/LinkedHashSet", "iterator", "()Ljava/util/Iterator;"⟩) mk_J14_iterator ⟨by decide, Or.inl rfl, rfl⟩ rfl q1607 q1608 q792 q1610 (by decide +kernel) (by decide +kernel)
theorem clv_1_10 : (fun e : Instr × Nat × Nat × Nat × Nat => CS RX1 e.1 e.2.1 e.2.2.1 e.2.2.2.1 (mth e.2.2.2.2)) (((.invokevirtual 94), 3, 13, 3, 222)) := CS.U (i := 12) (owner := "java/util/HashMap") (x := ⟨"java/util/LinkedHashMap", "put", "(Ljava/lang/Object;Ljava/lang/Object;)Ljava/lang/Object;"⟩) mk_J4_put ⟨by decide, Or.inl rfl, rfl⟩ rfl q1612 q1613 q907 q1615 (by decide +kernel) (by decide +kernel)
theorem clv_1_11 : (fun e : Instr × Nat × Nat × Nat × Nat => CS RX1 e.1 e.2.1 e.2.2.1 e.2.2.2.1 (mth e.2.2.2.2)) (((.invokevirtual 98), 3, 6, 2, 178)) := CS.V (i := 5) mk_X5_hasPin ⟨by decide, Or.inl rfl, rfl⟩ rfl q1677 q1678 q1679 (by decide +kernel) (by decide +kernel)
theorem clv_1_12 : (fun e : Instr × Nat × Nat × Nat × Nat => CS RX1 e.1 e.2.1 e.2.2.1 e.2.2.2.1 (mth e.2.2.2.2)) (((.invokevirtual 153), 3, 2, 3, 60)) := CS.V (i := 1) mk_X1_takeRoute ⟨by decide, Or.inl rfl, rfl⟩ rfl q2170 q2172 qs33 (by decide +kernel) (by decide +kernel)
theorem clv_1_13 : (fun e : Instr × Nat × Nat × Nat × Nat => CS RX1 e.1 e.2.1 e.2.2.1 e.2.2.2.1 (mth e.2.2.2.2)) (((.invokevirtual 146), 3, 8, 1, 192)) := CS.V (i := 7) mk_X7_place ⟨by decide, Or.inl rfl, rfl⟩ rfl q2175 q2176 q2177 (by decide +kernel) (by decide +kernel)
theorem clv_1_14 : (fun e : Instr × Nat × Nat × Nat × Nat => CS RX1 e.1 e.2.1 e.2.2.1 e.2.2.2.1 (mth e.2.2.2.2)) (((.invokevirtual 150), 3, 19, 2, 300)) := CS.U (i := 18) (owner := "java/util/HashSet") (x := ⟨"java/util/LinkedHashSet", "add", "(Ljava/lang/Object;)Z"⟩) mk_J14_add ⟨by decide, Or.inl rfl, rfl⟩ rfl q2179 q899 q902 q901 (by decide +kernel) (by decide +kernel)
theorem clv_1_15 : (fun e : Instr × Nat × Nat × Nat × Nat => CS RX1 e.1 e.2.1 e.2.2.1 e.2.2.2.1 (mth e.2.2.2.2)) (((.invokevirtual 160), 3, 3, 1, 76)) := CS.V (i := 2) mk_X2_size ⟨by decide, Or.inl rfl, rfl⟩ rfl q2184 q1732 q1733 (by decide +kernel) (by decide +kernel)
theorem clv_1_16 : (fun e : Instr × Nat × Nat × Nat × Nat => CS RX1 e.1 e.2.1 e.2.2.1 e.2.2.2.1 (mth e.2.2.2.2)) (((.invokevirtual 166), 3, 3, 2, 78)) := CS.V (i := 2) mk_X2_get ⟨by decide, Or.inl rfl, rfl⟩ rfl q2185 q1748 q1749 (by decide +kernel) (by decide +kernel)
theorem clv_1_17 : (fun e : Instr × Nat × Nat × Nat × Nat => CS RX1 e.1 e.2.1 e.2.2.1 e.2.2.2.1 (mth e.2.2.2.2)) (((.invokevirtual 169), 3, 2, 2, 56)) := CS.V (i := 1) mk_X1_priceOf ⟨by decide, Or.inl rfl, rfl⟩ rfl q2186 q1889 q1890 (by decide +kernel) (by decide +kernel)
theorem clv_1_18 : (fun e : Instr × Nat × Nat × Nat × Nat => CS RX1 e.1 e.2.1 e.2.2.1 e.2.2.2.1 (mth e.2.2.2.2)) (((.invokevirtual 173), 3, 6, 3, 181)) := CS.V (i := 5) mk_X5_pay ⟨by decide, Or.inl rfl, rfl⟩ rfl q2187 q2188 q2189 (by decide +kernel) (by decide +kernel)
theorem clv_1_19 : (fun e : Instr × Nat × Nat × Nat × Nat => CS RX1 e.1 e.2.1 e.2.2.1 e.2.2.2.1 (mth e.2.2.2.2)) (((.invokevirtual 183), 3, 2, 2, 62)) := CS.V (i := 1) mk_X1_loseWire ⟨by decide, Or.inl rfl, rfl⟩ rfl q2192 q2194 qs34 (by decide +kernel) (by decide +kernel)
theorem clv_1_20 : (fun e : Instr × Nat × Nat × Nat × Nat => CS RX1 e.1 e.2.1 e.2.2.1 e.2.2.2.1 (mth e.2.2.2.2)) (((.invokevirtual 131), 3, 13, 2, 230)) := CS.U (i := 12) (owner := "java/util/HashMap") (x := ⟨"java/util/LinkedHashMap", "remove", "(Ljava/lang/Object;)Ljava/lang/Object;"⟩) mk_J4_remove ⟨by decide, Or.inl rfl, rfl⟩ rfl q2196 q2197 q2200 q2199 (by decide +kernel) (by decide +kernel)
theorem clv_1_21 : (fun e : Instr × Nat × Nat × Nat × Nat => CS RX1 e.1 e.2.1 e.2.2.1 e.2.2.2.1 (mth e.2.2.2.2)) (((.invokevirtual 134), 3, 19, 1, 303)) := CS.U (i := 18) (owner := "java/util/HashSet") (x := ⟨"java/util/LinkedHashSet", "clear", "()V"⟩) mk_J14_clear ⟨by decide, Or.inl rfl, rfl⟩ rfl q2221 q2222 q2225 q2224 (by decide +kernel) (by decide +kernel)
theorem clv_1_22 : (fun e : Instr × Nat × Nat × Nat × Nat => CS RX1 e.1 e.2.1 e.2.2.1 e.2.2.2.1 (mth e.2.2.2.2)) (((.invokevirtual 192), 3, 6, 1, 179)) := CS.V (i := 5) mk_X5_many ⟨by decide, Or.inl rfl, rfl⟩ rfl q2240 q1774 q1775 (by decide +kernel) (by decide +kernel)
theorem clv_1_23 : (fun e : Instr × Nat × Nat × Nat × Nat => CS RX1 e.1 e.2.1 e.2.2.1 e.2.2.2.1 (mth e.2.2.2.2)) (((.invokevirtual 200), 3, 2, 1, 58)) := CS.V (i := 1) mk_X1_appeals ⟨by decide, Or.inl rfl, rfl⟩ rfl q2245 q2159 q2160 (by decide +kernel) (by decide +kernel)
theorem clv_1_24 : (fun e : Instr × Nat × Nat × Nat × Nat => CS RX1 e.1 e.2.1 e.2.2.1 e.2.2.2.1 (mth e.2.2.2.2)) (((.invokevirtual 230), 3, 2, 1, 66)) := CS.V (i := 1) mk_X1_docket ⟨by decide, Or.inl rfl, rfl⟩ rfl q2250 q2251 q2252 (by decide +kernel) (by decide +kernel)
theorem clv_1_25 : (fun e : Instr × Nat × Nat × Nat × Nat => CS RX1 e.1 e.2.1 e.2.2.1 e.2.2.2.1 (mth e.2.2.2.2)) (((.invokevirtual 234), 3, 9, 1, 195)) := CS.V (i := 8) mk_X8_next ⟨by decide, Or.inl rfl, rfl⟩ rfl q2332 q2333 q2334 (by decide +kernel) (by decide +kernel)
theorem clv_1_26 : (fun e : Instr × Nat × Nat × Nat × Nat => CS RX1 e.1 e.2.1 e.2.2.1 e.2.2.2.1 (mth e.2.2.2.2)) (((.invokevirtual 241), 3, 7, 2, 184)) := CS.V (i := 6) mk_X6_loss ⟨by decide, Or.inl rfl, rfl⟩ rfl q2346 q1979 q1980 (by decide +kernel) (by decide +kernel)
theorem clv_1_27 : (fun e : Instr × Nat × Nat × Nat × Nat => CS RX1 e.1 e.2.1 e.2.2.1 e.2.2.2.1 (mth e.2.2.2.2)) (((.invokevirtual 258), 3, 2, 2, 67)) := CS.V (i := 1) mk_X1_areFree ⟨by decide, Or.inl rfl, rfl⟩ rfl q2349 q2351 qs37 (by decide +kernel) (by decide +kernel)
theorem clv_1_28 : (fun e : Instr × Nat × Nat × Nat × Nat => CS RX1 e.1 e.2.1 e.2.2.1 e.2.2.2.1 (mth e.2.2.2.2)) (((.invokevirtual 262), 3, 6, 2, 177)) := CS.V (i := 5) mk_X5_takeWire ⟨by decide, Or.inl rfl, rfl⟩ rfl q2361 q684 q685 (by decide +kernel) (by decide +kernel)
theorem clv_1_29 : (fun e : Instr × Nat × Nat × Nat × Nat => CS RX1 e.1 e.2.1 e.2.2.1 e.2.2.2.1 (mth e.2.2.2.2)) (((.invokevirtual 213), 3, 9, 2, 194)) := CS.V (i := 8) mk_X8_add ⟨by decide, Or.inl rfl, rfl⟩ rfl q2299 q2300 q2301 (by decide +kernel) (by decide +kernel)
theorem clv_1_30 : (fun e : Instr × Nat × Nat × Nat × Nat => CS RX1 e.1 e.2.1 e.2.2.1 e.2.2.2.1 (mth e.2.2.2.2)) (((.invokeinterface 223 1), 5, 12, 1, 210)) := CS.F (i := 11) (x := ⟨"java/util/Collection", "iterator", "()Ljava/util/Iterator;"⟩) mk_J2_iterator ⟨by decide, Or.inl rfl, rfl⟩ (by decide) q2354 q443 q724 q690 q689 q726 q725 q723 (by decide +kernel) (by decide +kernel)
theorem clv_1_31 : (fun e : Instr × Nat × Nat × Nat × Nat => CS RX1 e.1 e.2.1 e.2.2.1 e.2.2.2.1 (mth e.2.2.2.2)) (((.invokeinterface 223 1), 5, 19, 1, 299)) := CS.F (i := 18) (x := ⟨"java/util/Collection", "iterator", "()Ljava/util/Iterator;"⟩) mk_J14_iterator ⟨by decide, Or.inl rfl, rfl⟩ (by decide) q2354 q792 q790 q690 q689 q793 q791 q789 (by decide +kernel) (by decide +kernel)
theorem clv_1_32 : (fun e : Instr × Nat × Nat × Nat × Nat => CS RX1 e.1 e.2.1 e.2.2.1 e.2.2.2.1 (mth e.2.2.2.2)) (((.invokeinterface 223 1), 5, 22, 1, 318)) := CS.F (i := 21) (x := ⟨"java/util/Collection", "iterator", "()Ljava/util/Iterator;"⟩) mk_J25_iterator ⟨by decide, Or.inl rfl, rfl⟩ (by decide) q2354 q761 q759 q690 q689 q762 q760 q758 (by decide +kernel) (by decide +kernel)
theorem clv_1_33 : (fun e : Instr × Nat × Nat × Nat × Nat => CS RX1 e.1 e.2.1 e.2.2.1 e.2.2.2.1 (mth e.2.2.2.2)) (((.invokeinterface 223 1), 5, 26, 1, 343)) := CS.F (i := 25) (x := ⟨"java/util/Collection", "iterator", "()Ljava/util/Iterator;"⟩) mk_J41_iterator ⟨by decide, Or.inl rfl, rfl⟩ (by decide) q2354 q864 q862 q690 q689 q865 q863 q861 (by decide +kernel) (by decide +kernel)
theorem clv_1_34 : (fun e : Instr × Nat × Nat × Nat × Nat => CS RX1 e.1 e.2.1 e.2.2.1 e.2.2.2.1 (mth e.2.2.2.2)) (((.invokevirtual 226), 3, 2, 2, 68)) := CS.V (i := 1) mk_X1_isFree ⟨by decide, Or.inl rfl, rfl⟩ rfl q2355 q2357 qs38 (by decide +kernel) (by decide +kernel)
theorem clv_1_35 : (fun e : Instr × Nat × Nat × Nat × Nat => CS RX1 e.1 e.2.1 e.2.2.1 e.2.2.2.1 (mth e.2.2.2.2)) (((.invokevirtual 216), 3, 2, 2, 53)) := CS.V (i := 1) mk_X1_pinOwner ⟨by decide, Or.inl rfl, rfl⟩ rfl q2359 q1674 q1675 (by decide +kernel) (by decide +kernel)
theorem clv_1_36 : (fun e : Instr × Nat × Nat × Nat × Nat => CS RX1 e.1 e.2.1 e.2.2.1 e.2.2.2.1 (mth e.2.2.2.2)) (((.invokevirtual 220), 3, 13, 2, 227)) := CS.U (i := 12) (owner := "java/util/HashMap") (x := ⟨"java/util/LinkedHashMap", "containsKey", "(Ljava/lang/Object;)Z"⟩) mk_J4_containsKey ⟨by decide, Or.inl rfl, rfl⟩ rfl q2360 q1682 q1685 q1684 (by decide +kernel) (by decide +kernel)
theorem clv_1_37 : (fun e : Instr × Nat × Nat × Nat × Nat => CS RX1 e.1 e.2.1 e.2.2.1 e.2.2.2.1 (mth e.2.2.2.2)) (((.invokevirtual 116), 3, 13, 1, 235)) := CS.V (i := 12) mk_J5_keySet ⟨by decide, Or.inl rfl, rfl⟩ rfl q2504 q799 q3158 (by decide +kernel) (by decide +kernel)
theorem clv_1_38 : (fun e : Instr × Nat × Nat × Nat × Nat => CS RX1 e.1 e.2.1 e.2.2.1 e.2.2.2.1 (mth e.2.2.2.2)) (((.invokeinterface 120 1), 5, 19, 1, 299)) := CS.F (i := 18) (x := ⟨"java/util/Set", "iterator", "()Ljava/util/Iterator;"⟩) mk_J14_iterator ⟨by decide, Or.inl rfl, rfl⟩ (by decide) q2506 q792 q829 q823 q822 q793 q791 q828 (by decide +kernel) (by decide +kernel)
theorem clv_1_39 : (fun e : Instr × Nat × Nat × Nat × Nat => CS RX1 e.1 e.2.1 e.2.2.1 e.2.2.2.1 (mth e.2.2.2.2)) (((.invokeinterface 120 1), 5, 22, 1, 318)) := CS.F (i := 21) (x := ⟨"java/util/Set", "iterator", "()Ljava/util/Iterator;"⟩) mk_J25_iterator ⟨by decide, Or.inl rfl, rfl⟩ (by decide) q2506 q761 q827 q823 q822 q762 q760 q826 (by decide +kernel) (by decide +kernel)
theorem clv_1_40 : (fun e : Instr × Nat × Nat × Nat × Nat => CS RX1 e.1 e.2.1 e.2.2.1 e.2.2.2.1 (mth e.2.2.2.2)) (((.invokevirtual 123), 3, 8, 1, 191)) := CS.V (i := 7) mk_X7_above ⟨by decide, Or.inl rfl, rfl⟩ rfl q2507 q1697 q1698 (by decide +kernel) (by decide +kernel)
theorem clv_1_41 : (fun e : Instr × Nat × Nat × Nat × Nat => CS RX1 e.1 e.2.1 e.2.2.1 e.2.2.2.1 (mth e.2.2.2.2)) (((.invokevirtual 127), 3, 13, 2, 244)) := CS.V (i := 12) mk_J5_get ⟨by decide, Or.inl rfl, rfl⟩ rfl q2508 q2509 q2510 (by decide +kernel) (by decide +kernel)
theorem clv_1_ok : ∀ e ∈ clv_1, CS RX1 e.1 e.2.1 e.2.2.1 e.2.2.2.1 (mth e.2.2.2.2) := List.forall_mem_cons.mpr ⟨clv_1_0, List.forall_mem_cons.mpr ⟨clv_1_1, List.forall_mem_cons.mpr ⟨clv_1_2, List.forall_mem_cons.mpr ⟨clv_1_3, List.forall_mem_cons.mpr ⟨clv_1_4, List.forall_mem_cons.mpr ⟨clv_1_5, List.forall_mem_cons.mpr ⟨clv_1_6, List.forall_mem_cons.mpr ⟨clv_1_7, List.forall_mem_cons.mpr ⟨clv_1_8, List.forall_mem_cons.mpr ⟨clv_1_9, List.forall_mem_cons.mpr ⟨clv_1_10, List.forall_mem_cons.mpr ⟨clv_1_11, List.forall_mem_cons.mpr ⟨clv_1_12, List.forall_mem_cons.mpr ⟨clv_1_13, List.forall_mem_cons.mpr ⟨clv_1_14, List.forall_mem_cons.mpr ⟨clv_1_15, List.forall_mem_cons.mpr ⟨clv_1_16, List.forall_mem_cons.mpr ⟨clv_1_17, List.forall_mem_cons.mpr ⟨clv_1_18, List.forall_mem_cons.mpr ⟨clv_1_19, List.forall_mem_cons.mpr ⟨clv_1_20, List.forall_mem_cons.mpr ⟨clv_1_21, List.forall_mem_cons.mpr ⟨clv_1_22, List.forall_mem_cons.mpr ⟨clv_1_23, List.forall_mem_cons.mpr ⟨clv_1_24, List.forall_mem_cons.mpr ⟨clv_1_25, List.forall_mem_cons.mpr ⟨clv_1_26, List.forall_mem_cons.mpr ⟨clv_1_27, List.forall_mem_cons.mpr ⟨clv_1_28, List.forall_mem_cons.mpr ⟨clv_1_29, List.forall_mem_cons.mpr ⟨clv_1_30, List.forall_mem_cons.mpr ⟨clv_1_31, List.forall_mem_cons.mpr ⟨clv_1_32, List.forall_mem_cons.mpr ⟨clv_1_33, List.forall_mem_cons.mpr ⟨clv_1_34, List.forall_mem_cons.mpr ⟨clv_1_35, List.forall_mem_cons.mpr ⟨clv_1_36, List.forall_mem_cons.mpr ⟨clv_1_37, List.forall_mem_cons.mpr ⟨clv_1_38, List.forall_mem_cons.mpr ⟨clv_1_39, List.forall_mem_cons.mpr ⟨clv_1_40, List.forall_mem_cons.mpr ⟨clv_1_41, fun _ h => absurd h List.not_mem_nil⟩⟩⟩⟩⟩⟩⟩⟩⟩⟩⟩⟩⟩⟩⟩⟩⟩⟩⟩⟩⟩⟩⟩⟩⟩⟩⟩⟩⟩⟩⟩⟩⟩⟩⟩⟩⟩⟩⟩⟩⟩⟩
def klk_1 : List (Nat × Nat) := [(58, 6), (67, 7), (92, 8)]
theorem klk_1_0 : (fun e : Nat × Nat => CG RX1 e.1 e.2) ((58, 6)) := ⟨5, (RX5, TX5, 9), _, by decide, Or.inl rfl, rfl, q593, Or.inl ⟨rfl, by decide⟩⟩
theorem klk_1_1 : (fun e : Nat × Nat => CG RX1 e.1 e.2) ((67, 7)) := ⟨6, (RX6, TX6, 7), _, by decide, Or.inl rfl, rfl, q1548, Or.inl ⟨rfl, by decide⟩⟩
theorem klk_1_2 : (fun e : Nat × Nat => CG RX1 e.1 e.2) ((92, 8)) := ⟨7, (RX7, TX7, 1), _, by decide, Or.inl rfl, rfl, q1611, Or.inl ⟨rfl, by decide⟩⟩
theorem klk_1_ok : ∀ e ∈ klk_1, CG RX1 e.1 e.2 := List.forall_mem_cons.mpr ⟨klk_1_0, List.forall_mem_cons.mpr ⟨klk_1_1, List.forall_mem_cons.mpr ⟨klk_1_2, fun _ h => absurd h List.not_mem_nil⟩⟩⟩
def ilk_1 : List (Nat × Nat) := []
theorem ilk_1_ok : ∀ e ∈ ilk_1, CG RX1 e.1 e.2 := fun _ h => absurd h List.not_mem_nil
def slk_1 : List (Nat × Nat) := []
theorem slk_1_ok : ∀ e ∈ slk_1, GS RX1 e.1 e.2 := fun _ h => absurd h List.not_mem_nil
def alk_1 : List (Nat × Nat) := []
theorem alk_1_ok : ∀ e ∈ alk_1, AG RX1 e.1 e.2 := fun _ h => absurd h List.not_mem_nil
def dlk_1 : List (Nat × Int) := []
theorem dlk_1_ok : ∀ e ∈ dlk_1, Cond.constant RX1 e.1 (iI e.2) ∈ lw_all := fun _ h => absurd h List.not_mem_nil
def d2k_1 : List (Nat × Int) := []
theorem d2k_1_ok : ∀ e ∈ d2k_1, Cond.constantLong RX1 e.1 (lI e.2) ∈ lw_all := fun _ h => absurd h List.not_mem_nil
def fck_1 : List (Nat × UInt32) := []
theorem fck_1_ok : ∀ e ∈ fck_1, Cond.constantFloat RX1 e.1 e.2 ∈ lw_all := fun _ h => absurd h List.not_mem_nil
def flk_2 : List (Nat × Nat × Nat) := [(10, 3, 0), (16, 3, 1)]
theorem flk_2_0 : (fun e : Nat × Nat × Nat => FG RX2 e.1 e.2.1 e.2.2) ((10, 3, 0)) := FG.mk' (i := 2) (k := 0) (by decide) (by decide) rfl (by decide) (Or.inl q206) (Or.inl rfl) (Or.inl rfl)
theorem flk_2_1 : (fun e : Nat × Nat × Nat => FG RX2 e.1 e.2.1 e.2.2) ((16, 3, 1)) := FG.mk' (i := 2) (k := 1) (by decide) (by decide) rfl (by decide) (Or.inl q210) (Or.inl rfl) (Or.inl rfl)
theorem flk_2_ok : ∀ e ∈ flk_2, FG RX2 e.1 e.2.1 e.2.2 := List.forall_mem_cons.mpr ⟨flk_2_0, List.forall_mem_cons.mpr ⟨flk_2_1, fun _ h => absurd h List.not_mem_nil⟩⟩
def plk_2 : List (Nat × Nat × Nat × FieldType × Bool) := [(10, 3, 0, tyX2 0, true), (16, 3, 1, tyX2 1, true)]
theorem plk_2_0 : (fun e : Nat × Nat × Nat × FieldType × Bool => PG RX2 e.1 e.2.1 e.2.2.1 e.2.2.2.1 e.2.2.2.2) ((10, 3, 0, tyX2 0, true)) := PG.mk' (i := 2) (k := 0) (by decide) (by decide) rfl (by decide) (Or.inl q206) (Or.inl rfl) rfl rfl (fun _ => rfl)
theorem plk_2_1 : (fun e : Nat × Nat × Nat × FieldType × Bool => PG RX2 e.1 e.2.1 e.2.2.1 e.2.2.2.1 e.2.2.2.2) ((16, 3, 1, tyX2 1, true)) := PG.mk' (i := 2) (k := 1) (by decide) (by decide) rfl (by decide) (Or.inl q210) (Or.inl rfl) rfl rfl (fun _ => rfl)
theorem plk_2_ok : ∀ e ∈ plk_2, PG RX2 e.1 e.2.1 e.2.2.1 e.2.2.2.1 e.2.2.2.2 := List.forall_mem_cons.mpr ⟨plk_2_0, List.forall_mem_cons.mpr ⟨plk_2_1, fun _ h => absurd h List.not_mem_nil⟩⟩
def nlk_2 : List (Nat × Nat) := [(7, 11)]
theorem nlk_2_0 : (fun e : Nat × Nat => NG RX2 e.1 e.2) ((7, 11)) := ⟨by decide, by decide, _, rfl, q177, q178, q103⟩
theorem nlk_2_ok : ∀ e ∈ nlk_2, NG RX2 e.1 e.2 := List.forall_mem_cons.mpr ⟨nlk_2_0, fun _ h => absurd h List.not_mem_nil⟩
def cls_2 : List (Nat × Nat × Nat) := [(24, 3, 3)]
theorem cls_2_0 : (fun e : Nat × Nat × Nat => CS RX2 (.invokestatic e.1) 3 0 e.2.1 (mth e.2.2)) ((24, 3, 3)) := CS.SN mk_X0_isBetween q1746 q431 (by decide +kernel) (by decide +kernel)
theorem cls_2_ok : ∀ e ∈ cls_2, CS RX2 (.invokestatic e.1) 3 0 e.2.1 (mth e.2.2) := List.forall_mem_cons.mpr ⟨cls_2_0, fun _ h => absurd h List.not_mem_nil⟩
def cli_2 : List (Nat × Nat × Nat) := [(1, 1, 354), (9, 1, 209)]
theorem cli_2_0 : (fun e : Nat × Nat × Nat => ∀ tag, tag ≠ 0 → CS RX2 (.invokespecial e.1) 3 tag e.2.1 (mth e.2.2)) ((1, 1, 354)) := fun tag ht => CS.I mk_J45_init q176 q163 rfl rfl ht (by decide +kernel) (by decide +kernel)
theorem cli_2_1 : (fun e : Nat × Nat × Nat => ∀ tag, tag ≠ 0 → CS RX2 (.invokespecial e.1) 3 tag e.2.1 (mth e.2.2)) ((9, 1, 209)) := fun tag ht => CS.I mk_J2_init q179 q180 rfl rfl ht (by decide +kernel) (by decide +kernel)
theorem cli_2_ok : ∀ e ∈ cli_2, ∀ tag, tag ≠ 0 → CS RX2 (.invokespecial e.1) 3 tag e.2.1 (mth e.2.2) := List.forall_mem_cons.mpr ⟨cli_2_0, List.forall_mem_cons.mpr ⟨cli_2_1, fun _ h => absurd h List.not_mem_nil⟩⟩
def clv_2 : List (Instr × Nat × Nat × Nat × Nat) := [((.invokevirtual 36), 3, 12, 2, 211), ((.invokevirtual 20), 3, 12, 1, 215), ((.invokevirtual 30), 3, 12, 2, 216)]
theorem clv_2_0 : (fun e : Instr × Nat × Nat × Nat × Nat => CS RX2 e.1 e.2.1 e.2.2.1 e.2.2.2.1 (mth e.2.2.2.2)) (((.invokevirtual 36), 3, 12, 2, 211)) := CS.V (i := 11) mk_J2_add ⟨by decide, Or.inl rfl, rfl⟩ rfl q1507 q1508 q1509 (by decide +kernel) (by decide +kernel)
theorem clv_2_1 : (fun e : Instr × Nat × Nat × Nat × Nat => CS RX2 e.1 e.2.1 e.2.2.1 e.2.2.2.1 (mth e.2.2.2.2)) (((.invokevirtual 20), 3, 12, 1, 215)) := CS.V (i := 11) mk_J2_size ⟨by decide, Or.inl rfl, rfl⟩ rfl q1726 q1727 q1728 (by decide +kernel) (by decide +kernel)
theorem clv_2_2 : (fun e : Instr × Nat × Nat × Nat × Nat => CS RX2 e.1 e.2.1 e.2.2.1 e.2.2.2.1 (mth e.2.2.2.2)) (((.invokevirtual 30), 3, 12, 2, 216)) := CS.V (i := 11) mk_J2_get ⟨by decide, Or.inl rfl, rfl⟩ rfl q1751 q1752 q1753 (by decide +kernel) (by decide +kernel)
theorem clv_2_ok : ∀ e ∈ clv_2, CS RX2 e.1 e.2.1 e.2.2.1 e.2.2.2.1 (mth e.2.2.2.2) := List.forall_mem_cons.mpr ⟨clv_2_0, List.forall_mem_cons.mpr ⟨clv_2_1, List.forall_mem_cons.mpr ⟨clv_2_2, fun _ h => absurd h List.not_mem_nil⟩⟩⟩
def klk_2 : List (Nat × Nat) := [(34, 6), (34, 7)]
theorem klk_2_0 : (fun e : Nat × Nat => CG RX2 e.1 e.2) ((34, 6)) := ⟨5, (RX5, TX5, 9), _, by decide, Or.inl rfl, rfl, q1765, Or.inr q2496⟩
theorem klk_2_1 : (fun e : Nat × Nat => CG RX2 e.1 e.2) ((34, 7)) := ⟨6, (RX6, TX6, 7), _, by decide, Or.inl rfl, rfl, q1765, Or.inr q2492⟩
theorem klk_2_ok : ∀ e ∈ klk_2, CG RX2 e.1 e.2 := List.forall_mem_cons.mpr ⟨klk_2_0, List.forall_mem_cons.mpr ⟨klk_2_1, fun _ h => absurd h List.not_mem_nil⟩⟩
def ilk_2 : List (Nat × Nat) := []
theorem ilk_2_ok : ∀ e ∈ ilk_2, CG RX2 e.1 e.2 := fun _ h => absurd h List.not_mem_nil
def slk_2 : List (Nat × Nat) := []
theorem slk_2_ok : ∀ e ∈ slk_2, GS RX2 e.1 e.2 := fun _ h => absurd h List.not_mem_nil
def alk_2 : List (Nat × Nat) := []
theorem alk_2_ok : ∀ e ∈ alk_2, AG RX2 e.1 e.2 := fun _ h => absurd h List.not_mem_nil
def dlk_2 : List (Nat × Int) := []
theorem dlk_2_ok : ∀ e ∈ dlk_2, Cond.constant RX2 e.1 (iI e.2) ∈ lw_all := fun _ h => absurd h List.not_mem_nil
def d2k_2 : List (Nat × Int) := []
theorem d2k_2_ok : ∀ e ∈ d2k_2, Cond.constantLong RX2 e.1 (lI e.2) ∈ lw_all := fun _ h => absurd h List.not_mem_nil
def fck_2 : List (Nat × UInt32) := []
theorem fck_2_ok : ∀ e ∈ fck_2, Cond.constantFloat RX2 e.1 e.2 ∈ lw_all := fun _ h => absurd h List.not_mem_nil
def flk_3 : List (Nat × Nat × Nat) := [(9, 4, 0), (37, 2, 4), (44, 2, 0), (48, 3, 0), (28, 4, 5), (72, 6, 0), (15, 4, 1), (25, 4, 4), (144, 6, 1), (19, 4, 2), (118, 4, 8), (121, 4, 7), (22, 4, 3), (40, 4, 6), (141, 4, 9)]
theorem flk_3_0 : (fun e : Nat × Nat × Nat => FG RX3 e.1 e.2.1 e.2.2) ((9, 4, 0)) := FG.mk' (i := 3) (k := 0) (by decide) (by decide) rfl (by decide) (Or.inl q366) (Or.inl rfl) (Or.inl rfl)
theorem flk_3_1 : (fun e : Nat × Nat × Nat => FG RX3 e.1 e.2.1 e.2.2) ((37, 2, 4)) := FG.mk' (i := 1) (k := 4) (by decide) (by decide) rfl (by decide) (Or.inr ⟨_, q289⟩) (Or.inl rfl) (Or.inl rfl)
theorem flk_3_2 : (fun e : Nat × Nat × Nat => FG RX3 e.1 e.2.1 e.2.2) ((44, 2, 0)) := FG.mk' (i := 1) (k := 0) (by decide) (by decide) rfl (by decide) (Or.inr ⟨_, q278⟩) (Or.inl rfl) (Or.inl rfl)
theorem flk_3_3 : (fun e : Nat × Nat × Nat => FG RX3 e.1 e.2.1 e.2.2) ((48, 3, 0)) := FG.mk' (i := 2) (k := 0) (by decide) (by decide) rfl (by decide) (Or.inr ⟨_, q207⟩) (Or.inl rfl) (Or.inl rfl)
theorem flk_3_4 : (fun e : Nat × Nat × Nat => FG RX3 e.1 e.2.1 e.2.2) ((28, 4, 5)) := FG.mk' (i := 3) (k := 5) (by decide) (by decide) rfl (by decide) (Or.inl q375) (Or.inl rfl) (Or.inl rfl)
theorem flk_3_5 : (fun e : Nat × Nat × Nat => FG RX3 e.1 e.2.1 e.2.2) ((72, 6, 0)) := FG.mk' (i := 5) (k := 0) (by decide) (by decide) rfl (by decide) (Or.inr ⟨_, q638⟩) (Or.inl rfl) (Or.inl rfl)
theorem flk_3_6 : (fun e : Nat × Nat × Nat => FG RX3 e.1 e.2.1 e.2.2) ((15, 4, 1)) := FG.mk' (i := 3) (k := 1) (by decide) (by decide) rfl (by decide) (Or.inl q368) (Or.inl rfl) (Or.inl rfl)
theorem flk_3_7 : (fun e : Nat × Nat × Nat => FG RX3 e.1 e.2.1 e.2.2) ((25, 4, 4)) := FG.mk' (i := 3) (k := 4) (by decide) (by decide) rfl (by decide) (Or.inl q373) (Or.inl rfl) (Or.inl rfl)
theorem flk_3_8 : (fun e : Nat × Nat × Nat => FG RX3 e.1 e.2.1 e.2.2) ((144, 6, 1)) := FG.mk' (i := 5) (k := 1) (by decide) (by decide) rfl (by decide) (Or.inr ⟨_, q643⟩) (Or.inl rfl) (Or.inl rfl)
theorem flk_3_9 : (fun e : Nat × Nat × Nat => FG RX3 e.1 e.2.1 e.2.2) ((19, 4, 2)) := FG.mk' (i := 3) (k := 2) (by decide) (by decide) rfl (by decide) (Or.inl q369) (Or.inl rfl) (Or.inl rfl)
theorem flk_3_10 : (fun e : Nat × Nat × Nat => FG RX3 e.1 e.2.1 e.2.2) ((118, 4, 8)) := FG.mk' (i := 3) (k := 8) (by decide) (by decide) rfl (by decide) (Or.inl q380) (Or.inl rfl) (Or.inl rfl)
theorem flk_3_11 : (fun e : Nat × Nat × Nat => FG RX3 e.1 e.2.1 e.2.2) ((121, 4, 7)) := FG.mk' (i := 3) (k := 7) (by decide) (by decide) rfl (by decide) (Or.inl q378) (Or.inl rfl) (Or.inl rfl)
theorem flk_3_12 : (fun e : Nat × Nat × Nat => FG RX3 e.1 e.2.1 e.2.2) ((22, 4, 3)) := FG.mk' (i := 3) (k := 3) (by decide) (by decide) rfl (by decide) (Or.inl q370) (Or.inl rfl) (Or.inl rfl)
theorem flk_3_13 : (fun e : Nat × Nat × Nat => FG RX3 e.1 e.2.1 e.2.2) ((40, 4, 6)) := FG.mk' (i := 3) (k := 6) (by decide) (by decide) rfl (by decide) (Or.inl q376) (Or.inl rfl) (Or.inl rfl)
theorem flk_3_14 : (fun e : Nat × Nat × Nat => FG RX3 e.1 e.2.1 e.2.2) ((141, 4, 9)) := FG.mk' (i := 3) (k := 9) (by decide) (by decide) rfl (by decide) (Or.inl q383) (Or.inl rfl) (Or.inl rfl)
theorem flk_3_ok : ∀ e ∈ flk_3, FG RX3 e.1 e.2.1 e.2.2 := List.forall_mem_cons.mpr ⟨flk_3_0, List.forall_mem_cons.mpr ⟨flk_3_1, List.forall_mem_cons.mpr ⟨flk_3_2, List.forall_mem_cons.mpr ⟨flk_3_3, List.forall_mem_cons.mpr ⟨flk_3_4, List.forall_mem_cons.mpr ⟨flk_3_5, List.forall_mem_cons.mpr ⟨flk_3_6, List.forall_mem_cons.mpr ⟨flk_3_7, List.forall_mem_cons.mpr ⟨flk_3_8, List.forall_mem_cons.mpr ⟨flk_3_9, List.forall_mem_cons.mpr ⟨flk_3_10, List.forall_mem_cons.mpr ⟨flk_3_11, List.forall_mem_cons.mpr ⟨flk_3_12, List.forall_mem_cons.mpr ⟨flk_3_13, List.forall_mem_cons.mpr ⟨flk_3_14, fun _ h => absurd h List.not_mem_nil⟩⟩⟩⟩⟩⟩⟩⟩⟩⟩⟩⟩⟩⟩⟩
def plk_3 : List (Nat × Nat × Nat × FieldType × Bool) := [(9, 4, 0, tyX3 0, true), (15, 4, 1, tyX3 1, true), (19, 4, 2, tyX3 2, true), (22, 4, 3, tyX3 3, true), (25, 4, 4, tyX3 4, true), (28, 4, 5, tyX3 5, true), (40, 4, 6, tyX3 6, false), (121, 4, 7, tyX3 7, false), (118, 4, 8, tyX3 8, false), (141, 4, 9, tyX3 9, false)]
theorem plk_3_0 : (fun e : Nat × Nat × Nat × FieldType × Bool => PG RX3 e.1 e.2.1 e.2.2.1 e.2.2.2.1 e.2.2.2.2) ((9, 4, 0, tyX3 0, true)) := PG.mk' (i := 3) (k := 0) (by decide) (by decide) rfl (by decide) (Or.inl q366) (Or.inl rfl) rfl rfl (fun _ => rfl)
theorem plk_3_1 : (fun e : Nat × Nat × Nat × FieldType × Bool => PG RX3 e.1 e.2.1 e.2.2.1 e.2.2.2.1 e.2.2.2.2) ((15, 4, 1, tyX3 1, true)) := PG.mk' (i := 3) (k := 1) (by decide) (by decide) rfl (by decide) (Or.inl q368) (Or.inl rfl) rfl rfl (fun _ => rfl)
theorem plk_3_2 : (fun e : Nat × Nat × Nat × FieldType × Bool => PG RX3 e.1 e.2.1 e.2.2.1 e.2.2.2.1 e.2.2.2.2) ((19, 4, 2, tyX3 2, true)) := PG.mk' (i := 3) (k := 2) (by decide) (by decide) rfl (by decide) (Or.inl q369) (Or.inl rfl) rfl rfl (fun _ => rfl)
theorem plk_3_3 : (fun e : Nat × Nat × Nat × FieldType × Bool => PG RX3 e.1 e.2.1 e.2.2.1 e.2.2.2.1 e.2.2.2.2) ((22, 4, 3, tyX3 3, true)) := PG.mk' (i := 3) (k := 3) (by decide) (by decide) rfl (by decide) (Or.inl q370) (Or.inl rfl) rfl rfl (fun _ => rfl)
theorem plk_3_4 : (fun e : Nat × Nat × Nat × FieldType × Bool => PG RX3 e.1 e.2.1 e.2.2.1 e.2.2.2.1 e.2.2.2.2) ((25, 4, 4, tyX3 4, true)) := PG.mk' (i := 3) (k := 4) (by decide) (by decide) rfl (by decide) (Or.inl q373) (Or.inl rfl) rfl rfl (fun _ => rfl)
theorem plk_3_5 : (fun e : Nat × Nat × Nat × FieldType × Bool => PG RX3 e.1 e.2.1 e.2.2.1 e.2.2.2.1 e.2.2.2.2) ((28, 4, 5, tyX3 5, true)) := PG.mk' (i := 3) (k := 5) (by decide) (by decide) rfl (by decide) (Or.inl q375) (Or.inl rfl) rfl rfl (fun _ => rfl)
theorem plk_3_6 : (fun e : Nat × Nat × Nat × FieldType × Bool => PG RX3 e.1 e.2.1 e.2.2.1 e.2.2.2.1 e.2.2.2.2) ((40, 4, 6, tyX3 6, false)) := PG.mk' (i := 3) (k := 6) (by decide) (by decide) rfl (by decide) (Or.inl q376) (Or.inl rfl) rfl rfl (fun h => by cases h)
theorem plk_3_7 : (fun e : Nat × Nat × Nat × FieldType × Bool => PG RX3 e.1 e.2.1 e.2.2.1 e.2.2.2.1 e.2.2.2.2) ((121, 4, 7, tyX3 7, false)) := PG.mk' (i := 3) (k := 7) (by decide) (by decide) rfl (by decide) (Or.inl q378) (Or.inl rfl) rfl rfl (fun h => by cases h)
theorem plk_3_8 : (fun e : Nat × Nat × Nat × FieldType × Bool => PG RX3 e.1 e.2.1 e.2.2.1 e.2.2.2.1 e.2.2.2.2) ((118, 4, 8, tyX3 8, false)) := PG.mk' (i := 3) (k := 8) (by decide) (by decide) rfl (by decide) (Or.inl q380) (Or.inl rfl) rfl rfl (fun h => by cases h)
theorem plk_3_9 : (fun e : Nat × Nat × Nat × FieldType × Bool => PG RX3 e.1 e.2.1 e.2.2.1 e.2.2.2.1 e.2.2.2.2) ((141, 4, 9, tyX3 9, false)) := PG.mk' (i := 3) (k := 9) (by decide) (by decide) rfl (by decide) (Or.inl q383) (Or.inl rfl) rfl rfl (fun h => by cases h)
theorem plk_3_ok : ∀ e ∈ plk_3, PG RX3 e.1 e.2.1 e.2.2.1 e.2.2.2.1 e.2.2.2.2 := List.forall_mem_cons.mpr ⟨plk_3_0, List.forall_mem_cons.mpr ⟨plk_3_1, List.forall_mem_cons.mpr ⟨plk_3_2, List.forall_mem_cons.mpr ⟨plk_3_3, List.forall_mem_cons.mpr ⟨plk_3_4, List.forall_mem_cons.mpr ⟨plk_3_5, List.forall_mem_cons.mpr ⟨plk_3_6, List.forall_mem_cons.mpr ⟨plk_3_7, List.forall_mem_cons.mpr ⟨plk_3_8, List.forall_mem_cons.mpr ⟨plk_3_9, fun _ h => absurd h List.not_mem_nil⟩⟩⟩⟩⟩⟩⟩⟩⟩⟩
def nlk_3 : List (Nat × Nat) := []
theorem nlk_3_ok : ∀ e ∈ nlk_3, NG RX3 e.1 e.2 := fun _ h => absurd h List.not_mem_nil
def cls_3 : List (Nat × Nat × Nat) := [(83, 1, 8), (96, 2, 334), (88, 2, 21), (137, 3, 3)]
theorem cls_3_0 : (fun e : Nat × Nat × Nat => CS RX3 (.invokestatic e.1) 3 0 e.2.1 (mth e.2.2)) ((83, 1, 8)) := CS.SN mk_X0_over q2094 q1701 (by decide +kernel) (by decide +kernel)
theorem cls_3_1 : (fun e : Nat × Nat × Nat => CS RX3 (.invokestatic e.1) 3 0 e.2.1 (mth e.2.2)) ((96, 2, 334)) := CS.S mk_J33_min q2128 q1194 (by decide +kernel) (by decide +kernel)
theorem cls_3_2 : (fun e : Nat × Nat × Nat => CS RX3 (.invokestatic e.1) 3 0 e.2.1 (mth e.2.2)) ((88, 2, 21)) := CS.SN mk_X0_stepFrom q2116 q2117 (by decide +kernel) (by decide +kernel)
theorem cls_3_3 : (fun e : Nat × Nat × Nat => CS RX3 (.invokestatic e.1) 3 0 e.2.1 (mth e.2.2)) ((137, 3, 3)) := CS.SN mk_X0_isBetween q2134 q431 (by decide +kernel) (by decide +kernel)
theorem cls_3_ok : ∀ e ∈ cls_3, CS RX3 (.invokestatic e.1) 3 0 e.2.1 (mth e.2.2) := List.forall_mem_cons.mpr ⟨cls_3_0, List.forall_mem_cons.mpr ⟨cls_3_1, List.forall_mem_cons.mpr ⟨cls_3_2, List.forall_mem_cons.mpr ⟨cls_3_3, fun _ h => absurd h List.not_mem_nil⟩⟩⟩⟩
def cli_3 : List (Nat × Nat × Nat) := [(3, 1, 354)]
theorem cli_3_0 : (fun e : Nat × Nat × Nat => ∀ tag, tag ≠ 0 → CS RX3 (.invokespecial e.1) 3 tag e.2.1 (mth e.2.2)) ((3, 1, 354)) := fun tag ht => CS.I mk_J45_init q365 q163 rfl rfl ht (by decide +kernel) (by decide +kernel)
theorem cli_3_ok : ∀ e ∈ cli_3, ∀ tag, tag ≠ 0 → CS RX3 (.invokespecial e.1) 3 tag e.2.1 (mth e.2.2) := List.forall_mem_cons.mpr ⟨cli_3_0, fun _ h => absurd h List.not_mem_nil⟩
def clv_3 : List (Instr × Nat × Nat × Nat × Nat) := [((.invokevirtual 31), 3, 2, 2, 55), ((.invokevirtual 54), 3, 12, 1, 210), ((.invokeinterface 60 1), 5, 17, 1, 277), ((.invokeinterface 60 1), 5, 21, 1, 313), ((.invokeinterface 60 1), 5, 23, 1, 320), ((.invokeinterface 66 1), 5, 17, 1, 278), ((.invokeinterface 66 1), 5, 21, 1, 316), ((.invokeinterface 66 1), 5, 23, 1, 323), ((.invokevirtual 75), 3, 2, 2, 56), ((.invokevirtual 131), 3, 4, 3, 82), ((.invokevirtual 147), 3, 4, 4, 83), ((.invokevirtual 79), 3, 6, 2, 178), ((.invokevirtual 114), 3, 4, 3, 84), ((.invokevirtual 124), 3, 4, 2, 90), ((.invokevirtual 128), 3, 4, 4, 91), ((.invokevirtual 92), 3, 4, 4, 85), ((.invokevirtual 101), 3, 4, 4, 86), ((.invokevirtual 104), 3, 4, 3, 87), ((.invokevirtual 107), 3, 4, 5, 88), ((.invokevirtual 111), 3, 4, 3, 89)]
theorem clv_3_0 : (fun e : Instr × Nat × Nat × Nat × Nat => CS RX3 e.1 e.2.1 e.2.2.1 e.2.2.2.1 (mth e.2.2.2.2)) (((.invokevirtual 31), 3, 2, 2, 55)) := CS.V (i := 1) mk_X1_layOwners ⟨by decide, Or.inl rfl, rfl⟩ rfl q1878 q1879 q1880 (by decide +kernel) (by decide +kernel)
theorem clv_3_1 : (fun e : Instr × Nat × Nat × Nat × Nat => CS RX3 e.1 e.2.1 e.2.2.1 e.2.2.2.1 (mth e.2.2.2.2)) (((.invokevirtual 54), 3, 12, 1, 210)) := CS.V (i := 11) mk_J2_iterator ⟨by decide, Or.inl rfl, rfl⟩ rfl q1882 q443 q444 (by decide +kernel) (by decide +kernel)
theorem clv_3_2 : (fun e : Instr × Nat × Nat × Nat × Nat => CS RX3 e.1 e.2.1 e.2.2.1 e.2.2.2.1 (mth e.2.2.2.2)) (((.invokeinterface 60 1), 5, 17, 1, 277)) := CS.F (i := 16) (x := ⟨"java/util/Iterator", "hasNext", "()Z"⟩) mk_J11_hasNext ⟨by decide, Or.inl rfl, rfl⟩ (by decide) q1884 q478 q476 q468 q467 q479 q477 q475 (by decide +kernel) (by decide +kernel)
theorem clv_3_3 : (fun e : Instr × Nat × Nat × Nat × Nat => CS RX3 e.1 e.2.1 e.2.2.1 e.2.2.2.1 (mth e.2.2.2.2)) (((.invokeinterface 60 1), 5, 21, 1, 313)) := CS.F (i := 20) (x := ⟨"java/util/Iterator", "hasNext", "()Z"⟩) mk_J22_hasNext ⟨by decide, Or.inl rfl, rfl⟩ (by decide) q1884 q490 q488 q468 q467 q491 q489 q487 (by decide +kernel) (by decide +kernel)
theorem clv_3_4 : (fun e : Instr × Nat × Nat × Nat × Nat => CS RX3 e.1 e.2.1 e.2.2.1 e.2.2.2.1 (mth e.2.2.2.2)) (((.invokeinterface 60 1), 5, 23, 1, 320)) := CS.F (i := 22) (x := ⟨"java/util/Iterator", "hasNext", "()Z"⟩) mk_J27_hasNext ⟨by decide, Or.inl rfl, rfl⟩ (by decide) q1884 q506 q504 q468 q467 q507 q505 q503 (by decide +kernel) (by decide +kernel)
theorem clv_3_5 : (fun e : Instr × Nat × Nat × Nat × Nat => CS RX3 e.1 e.2.1 e.2.2.1 e.2.2.2.1 (mth e.2.2.2.2)) (((.invokeinterface 66 1), 5, 17, 1, 278)) := CS.F (i := 16) (x := ⟨"java/util/Iterator", "next", "()Ljava/lang/Object;"⟩) mk_J11_next ⟨by decide, Or.inl rfl, rfl⟩ (by decide) q1886 q526 q524 q512 q511 q527 q525 q475 (by decide +kernel) (by decide +kernel)
theorem clv_3_6 : (fun e : Instr × Nat × Nat × Nat × Nat => CS RX3 e.1 e.2.1 e.2.2.1 e.2.2.2.1 (mth e.2.2.2.2)) (((.invokeinterface 66 1), 5, 21, 1, 316)) := CS.F (i := 20) (x := ⟨"java/util/Iterator", "next", "()Ljava/lang/Object;"⟩) mk_J23_next ⟨by decide, Or.inl rfl, rfl⟩ (by decide) q1886 q546 q544 q512 q511 q547 q545 q487 (by decide +kernel) (by decide +kernel)
theorem clv_3_7 : (fun e : Instr × Nat × Nat × Nat × Nat => CS RX3 e.1 e.2.1 e.2.2.1 e.2.2.2.1 (mth e.2.2.2.2)) (((.invokeinterface 66 1), 5, 23, 1, 323)) := CS.F (i := 22) (x := ⟨"java/util/Iterator", "next", "()Ljava/lang/Object;"⟩) mk_J28_next ⟨by decide, Or.inl rfl, rfl⟩ (by decide) q1886 q581 q579 q512 q511 q582 q580 q503 (by decide +kernel) (by decide +kernel)
theorem clv_3_8 : (fun e : Instr × Nat × Nat × Nat × Nat => CS RX3 e.1 e.2.1 e.2.2.1 e.2.2.2.1 (mth e.2.2.2.2)) (((.invokevirtual 75), 3, 2, 2, 56)) := CS.V (i := 1) mk_X1_priceOf ⟨by decide, Or.inl rfl, rfl⟩ rfl q1888 q1889 q1890 (by decide +kernel) (by decide +kernel)
theorem clv_3_9 : (fun e : Instr × Nat × Nat × Nat × Nat => CS RX3 e.1 e.2.1 e.2.2.1 e.2.2.2.1 (mth e.2.2.2.2)) (((.invokevirtual 131), 3, 4, 3, 82)) := CS.V (i := 3) mk_X3_join ⟨by decide, Or.inl rfl, rfl⟩ rfl q2089 q2091 qs21 (by decide +kernel) (by decide +kernel)
theorem clv_3_10 : (fun e : Instr × Nat × Nat × Nat × Nat => CS RX3 e.1 e.2.1 e.2.2.1 e.2.2.2.1 (mth e.2.2.2.2)) (((.invokevirtual 147), 3, 4, 4, 83)) := CS.V (i := 3) mk_X3_goes ⟨by decide, Or.inl rfl, rfl⟩ rfl q2095 q2097 qs22 (by decide +kernel) (by decide +kernel)
theorem clv_3_11 : (fun e : Instr × Nat × Nat × Nat × Nat => CS RX3 e.1 e.2.1 e.2.2.1 e.2.2.2.1 (mth e.2.2.2.2)) (((.invokevirtual 79), 3, 6, 2, 178)) := CS.V (i := 5) mk_X5_hasPin ⟨by decide, Or.inl rfl, rfl⟩ rfl q2093 q1678 q1679 (by decide +kernel) (by decide +kernel)
theorem clv_3_12 : (fun e : Instr × Nat × Nat × Nat × Nat => CS RX3 e.1 e.2.1 e.2.2.1 e.2.2.2.1 (mth e.2.2.2.2)) (((.invokevirtual 114), 3, 4, 3, 84)) := CS.V (i := 3) mk_X3_layFar ⟨by decide, Or.inl rfl, rfl⟩ rfl q2099 q2101 qs23 (by decide +kernel) (by decide +kernel)
theorem clv_3_13 : (fun e : Instr × Nat × Nat × Nat × Nat => CS RX3 e.1 e.2.1 e.2.2.1 e.2.2.2.1 (mth e.2.2.2.2)) (((.invokevirtual 124), 3, 4, 2, 90)) := CS.V (i := 3) mk_X3_take ⟨by decide, Or.inl rfl, rfl⟩ rfl q2129 q2131 qs29 (by decide +kernel) (by decide +kernel)
theorem clv_3_14 : (fun e : Instr × Nat × Nat × Nat × Nat => CS RX3 e.1 e.2.1 e.2.2.1 e.2.2.2.1 (mth e.2.2.2.2)) (((.invokevirtual 128), 3, 4, 4, 91)) := CS.V (i := 3) mk_X3_nextOf ⟨by decide, Or.inl rfl, rfl⟩ rfl q2135 q2137 qs30 (by decide +kernel) (by decide +kernel)
theorem clv_3_15 : (fun e : Instr × Nat × Nat × Nat × Nat => CS RX3 e.1 e.2.1 e.2.2.1 e.2.2.2.1 (mth e.2.2.2.2)) (((.invokevirtual 92), 3, 4, 4, 85)) := CS.V (i := 3) mk_X3_leastFrom ⟨by decide, Or.inl rfl, rfl⟩ rfl q2104 q2106 qs24 (by decide +kernel) (by decide +kernel)
theorem clv_3_16 : (fun e : Instr × Nat × Nat × Nat × Nat => CS RX3 e.1 e.2.1 e.2.2.1 e.2.2.2.1 (mth e.2.2.2.2)) (((.invokevirtual 101), 3, 4, 4, 86)) := CS.V (i := 3) mk_X3_entry ⟨by decide, Or.inl rfl, rfl⟩ rfl q2108 q2110 qs25 (by decide +kernel) (by decide +kernel)
theorem clv_3_17 : (fun e : Instr × Nat × Nat × Nat × Nat => CS RX3 e.1 e.2.1 e.2.2.1 e.2.2.2.1 (mth e.2.2.2.2)) (((.invokevirtual 104), 3, 4, 3, 87)) := CS.V (i := 3) mk_X3_neighbor ⟨by decide, Or.inl rfl, rfl⟩ rfl q2112 q2114 qs26 (by decide +kernel) (by decide +kernel)
theorem clv_3_18 : (fun e : Instr × Nat × Nat × Nat × Nat => CS RX3 e.1 e.2.1 e.2.2.1 e.2.2.2.1 (mth e.2.2.2.2)) (((.invokevirtual 107), 3, 4, 5, 88)) := CS.V (i := 3) mk_X3_costBy ⟨by decide, Or.inl rfl, rfl⟩ rfl q2120 q2122 qs27 (by decide +kernel) (by decide +kernel)
theorem clv_3_19 : (fun e : Instr × Nat × Nat × Nat × Nat => CS RX3 e.1 e.2.1 e.2.2.1 e.2.2.2.1 (mth e.2.2.2.2)) (((.invokevirtual 111), 3, 4, 3, 89)) := CS.V (i := 3) mk_X3_stepCost ⟨by decide, Or.inl rfl, rfl⟩ rfl q2124 q2126 qs28 (by decide +kernel) (by decide +kernel)
theorem clv_3_ok : ∀ e ∈ clv_3, CS RX3 e.1 e.2.1 e.2.2.1 e.2.2.2.1 (mth e.2.2.2.2) := List.forall_mem_cons.mpr ⟨clv_3_0, List.forall_mem_cons.mpr ⟨clv_3_1, List.forall_mem_cons.mpr ⟨clv_3_2, List.forall_mem_cons.mpr ⟨clv_3_3, List.forall_mem_cons.mpr ⟨clv_3_4, List.forall_mem_cons.mpr ⟨clv_3_5, List.forall_mem_cons.mpr ⟨clv_3_6, List.forall_mem_cons.mpr ⟨clv_3_7, List.forall_mem_cons.mpr ⟨clv_3_8, List.forall_mem_cons.mpr ⟨clv_3_9, List.forall_mem_cons.mpr ⟨clv_3_10, List.forall_mem_cons.mpr ⟨clv_3_11, List.forall_mem_cons.mpr ⟨clv_3_12, List.forall_mem_cons.mpr ⟨clv_3_13, List.forall_mem_cons.mpr ⟨clv_3_14, List.forall_mem_cons.mpr ⟨clv_3_15, List.forall_mem_cons.mpr ⟨clv_3_16, List.forall_mem_cons.mpr ⟨clv_3_17, List.forall_mem_cons.mpr ⟨clv_3_18, List.forall_mem_cons.mpr ⟨clv_3_19, fun _ h => absurd h List.not_mem_nil⟩⟩⟩⟩⟩⟩⟩⟩⟩⟩⟩⟩⟩⟩⟩⟩⟩⟩⟩⟩
def klk_3 : List (Nat × Nat) := [(70, 6)]
theorem klk_3_0 : (fun e : Nat × Nat => CG RX3 e.1 e.2) ((70, 6)) := ⟨5, (RX5, TX5, 9), _, by decide, Or.inl rfl, rfl, q1887, Or.inl ⟨rfl, by decide⟩⟩
theorem klk_3_ok : ∀ e ∈ klk_3, CG RX3 e.1 e.2 := List.forall_mem_cons.mpr ⟨klk_3_0, fun _ h => absurd h List.not_mem_nil⟩
def ilk_3 : List (Nat × Nat) := []
theorem ilk_3_ok : ∀ e ∈ ilk_3, CG RX3 e.1 e.2 := fun _ h => absurd h List.not_mem_nil
def slk_3 : List (Nat × Nat) := []
theorem slk_3_ok : ∀ e ∈ slk_3, GS RX3 e.1 e.2 := fun _ h => absurd h List.not_mem_nil
def alk_3 : List (Nat × Nat) := []
theorem alk_3_ok : ∀ e ∈ alk_3, AG RX3 e.1 e.2 := fun _ h => absurd h List.not_mem_nil
def dlk_3 : List (Nat × Int) := [(87, 1000000)]
theorem dlk_3_0 : (fun e : Nat × Int => Cond.constant RX3 e.1 (iI e.2) ∈ lw_all) ((87, 1000000)) := q2103
theorem dlk_3_ok : ∀ e ∈ dlk_3, Cond.constant RX3 e.1 (iI e.2) ∈ lw_all := List.forall_mem_cons.mpr ⟨dlk_3_0, fun _ h => absurd h List.not_mem_nil⟩
def d2k_3 : List (Nat × Int) := [(135, 5)]
theorem d2k_3_0 : (fun e : Nat × Int => Cond.constantLong RX3 e.1 (lI e.2) ∈ lw_all) ((135, 5)) := q2133
theorem d2k_3_ok : ∀ e ∈ d2k_3, Cond.constantLong RX3 e.1 (lI e.2) ∈ lw_all := List.forall_mem_cons.mpr ⟨d2k_3_0, fun _ h => absurd h List.not_mem_nil⟩
def fck_3 : List (Nat × UInt32) := []
theorem fck_3_ok : ∀ e ∈ fck_3, Cond.constantFloat RX3 e.1 e.2 ∈ lw_all := fun _ h => absurd h List.not_mem_nil
def flk_4 : List (Nat × Nat × Nat) := [(7, 5, 0), (50, 5, 5), (46, 5, 6), (19, 5, 3), (13, 5, 1), (108, 5, 12), (28, 5, 9), (25, 5, 8), (111, 5, 11), (32, 5, 10), (92, 5, 13), (35, 5, 14), (16, 5, 2), (216, 5, 7), (22, 5, 4), (228, 5, 16), (234, 5, 17), (219, 5, 15), (231, 5, 18)]
theorem flk_4_0 : (fun e : Nat × Nat × Nat => FG RX4 e.1 e.2.1 e.2.2) ((7, 5, 0)) := FG.mk' (i := 4) (k := 0) (by decide) (by decide) rfl (by decide) (Or.inl q2776) (Or.inl rfl) (Or.inl rfl)
theorem flk_4_1 : (fun e : Nat × Nat × Nat => FG RX4 e.1 e.2.1 e.2.2) ((50, 5, 5)) := FG.mk' (i := 4) (k := 5) (by decide) (by decide) rfl (by decide) (Or.inl q2781) (Or.inl rfl) (Or.inl rfl)
theorem flk_4_2 : (fun e : Nat × Nat × Nat => FG RX4 e.1 e.2.1 e.2.2) ((46, 5, 6)) := FG.mk' (i := 4) (k := 6) (by decide) (by decide) rfl (by decide) (Or.inl q2782) (Or.inl rfl) (Or.inl rfl)
theorem flk_4_3 : (fun e : Nat × Nat × Nat => FG RX4 e.1 e.2.1 e.2.2) ((19, 5, 3)) := FG.mk' (i := 4) (k := 3) (by decide) (by decide) rfl (by decide) (Or.inl q2779) (Or.inl rfl) (Or.inl rfl)
theorem flk_4_4 : (fun e : Nat × Nat × Nat => FG RX4 e.1 e.2.1 e.2.2) ((13, 5, 1)) := FG.mk' (i := 4) (k := 1) (by decide) (by decide) rfl (by decide) (Or.inl q2777) (Or.inl rfl) (Or.inl rfl)
theorem flk_4_5 : (fun e : Nat × Nat × Nat => FG RX4 e.1 e.2.1 e.2.2) ((108, 5, 12)) := FG.mk' (i := 4) (k := 12) (by decide) (by decide) rfl (by decide) (Or.inl q2788) (Or.inl rfl) (Or.inl rfl)
theorem flk_4_6 : (fun e : Nat × Nat × Nat => FG RX4 e.1 e.2.1 e.2.2) ((28, 5, 9)) := FG.mk' (i := 4) (k := 9) (by decide) (by decide) rfl (by decide) (Or.inl q2785) (Or.inl rfl) (Or.inl rfl)
theorem flk_4_7 : (fun e : Nat × Nat × Nat => FG RX4 e.1 e.2.1 e.2.2) ((25, 5, 8)) := FG.mk' (i := 4) (k := 8) (by decide) (by decide) rfl (by decide) (Or.inl q2784) (Or.inl rfl) (Or.inl rfl)
theorem flk_4_8 : (fun e : Nat × Nat × Nat => FG RX4 e.1 e.2.1 e.2.2) ((111, 5, 11)) := FG.mk' (i := 4) (k := 11) (by decide) (by decide) rfl (by decide) (Or.inl q2787) (Or.inl rfl) (Or.inl rfl)
theorem flk_4_9 : (fun e : Nat × Nat × Nat => FG RX4 e.1 e.2.1 e.2.2) ((32, 5, 10)) := FG.mk' (i := 4) (k := 10) (by decide) (by decide) rfl (by decide) (Or.inl q2786) (Or.inl rfl) (Or.inl rfl)
theorem flk_4_10 : (fun e : Nat × Nat × Nat => FG RX4 e.1 e.2.1 e.2.2) ((92, 5, 13)) := FG.mk' (i := 4) (k := 13) (by decide) (by decide) rfl (by decide) (Or.inl q2789) (Or.inl rfl) (Or.inl rfl)
theorem flk_4_11 : (fun e : Nat × Nat × Nat => FG RX4 e.1 e.2.1 e.2.2) ((35, 5, 14)) := FG.mk' (i := 4) (k := 14) (by decide) (by decide) rfl (by decide) (Or.inl q2790) (Or.inl rfl) (Or.inl rfl)
theorem flk_4_12 : (fun e : Nat × Nat × Nat => FG RX4 e.1 e.2.1 e.2.2) ((16, 5, 2)) := FG.mk' (i := 4) (k := 2) (by decide) (by decide) rfl (by decide) (Or.inl q2778) (Or.inl rfl) (Or.inl rfl)
theorem flk_4_13 : (fun e : Nat × Nat × Nat => FG RX4 e.1 e.2.1 e.2.2) ((216, 5, 7)) := FG.mk' (i := 4) (k := 7) (by decide) (by decide) rfl (by decide) (Or.inl q2783) (Or.inl rfl) (Or.inl rfl)
theorem flk_4_14 : (fun e : Nat × Nat × Nat => FG RX4 e.1 e.2.1 e.2.2) ((22, 5, 4)) := FG.mk' (i := 4) (k := 4) (by decide) (by decide) rfl (by decide) (Or.inl q2780) (Or.inl rfl) (Or.inl rfl)
theorem flk_4_15 : (fun e : Nat × Nat × Nat => FG RX4 e.1 e.2.1 e.2.2) ((228, 5, 16)) := FG.mk' (i := 4) (k := 16) (by decide) (by decide) rfl (by decide) (Or.inl q2792) (Or.inl rfl) (Or.inl rfl)
theorem flk_4_16 : (fun e : Nat × Nat × Nat => FG RX4 e.1 e.2.1 e.2.2) ((234, 5, 17)) := FG.mk' (i := 4) (k := 17) (by decide) (by decide) rfl (by decide) (Or.inl q2793) (Or.inl rfl) (Or.inl rfl)
theorem flk_4_17 : (fun e : Nat × Nat × Nat => FG RX4 e.1 e.2.1 e.2.2) ((219, 5, 15)) := FG.mk' (i := 4) (k := 15) (by decide) (by decide) rfl (by decide) (Or.inl q2791) (Or.inl rfl) (Or.inl rfl)
theorem flk_4_18 : (fun e : Nat × Nat × Nat => FG RX4 e.1 e.2.1 e.2.2) ((231, 5, 18)) := FG.mk' (i := 4) (k := 18) (by decide) (by decide) rfl (by decide) (Or.inl q2794) (Or.inl rfl) (Or.inl rfl)
theorem flk_4_ok : ∀ e ∈ flk_4, FG RX4 e.1 e.2.1 e.2.2 := List.forall_mem_cons.mpr ⟨flk_4_0, List.forall_mem_cons.mpr ⟨flk_4_1, List.forall_mem_cons.mpr ⟨flk_4_2, List.forall_mem_cons.mpr ⟨flk_4_3, List.forall_mem_cons.mpr ⟨flk_4_4, List.forall_mem_cons.mpr ⟨flk_4_5, List.forall_mem_cons.mpr ⟨flk_4_6, List.forall_mem_cons.mpr ⟨flk_4_7, List.forall_mem_cons.mpr ⟨flk_4_8, List.forall_mem_cons.mpr ⟨flk_4_9, List.forall_mem_cons.mpr ⟨flk_4_10, List.forall_mem_cons.mpr ⟨flk_4_11, List.forall_mem_cons.mpr ⟨flk_4_12, List.forall_mem_cons.mpr ⟨flk_4_13, List.forall_mem_cons.mpr ⟨flk_4_14, List.forall_mem_cons.mpr ⟨flk_4_15, List.forall_mem_cons.mpr ⟨flk_4_16, List.forall_mem_cons.mpr ⟨flk_4_17, List.forall_mem_cons.mpr ⟨flk_4_18, fun _ h => absurd h List.not_mem_nil⟩⟩⟩⟩⟩⟩⟩⟩⟩⟩⟩⟩⟩⟩⟩⟩⟩⟩⟩
def plk_4 : List (Nat × Nat × Nat × FieldType × Bool) := [(7, 5, 0, tyX4 0, true), (13, 5, 1, tyX4 1, true), (16, 5, 2, tyX4 2, true), (19, 5, 3, tyX4 3, true), (22, 5, 4, tyX4 4, true), (25, 5, 8, tyX4 8, true), (28, 5, 9, tyX4 9, true), (32, 5, 10, tyX4 10, true), (35, 5, 14, tyX4 14, true), (46, 5, 6, tyX4 6, false), (50, 5, 5, tyX4 5, false), (92, 5, 13, tyX4 13, false), (111, 5, 11, tyX4 11, false), (108, 5, 12, tyX4 12, false), (216, 5, 7, tyX4 7, false), (219, 5, 15, tyX4 15, false), (231, 5, 18, tyX4 18, false), (228, 5, 16, tyX4 16, false), (234, 5, 17, tyX4 17, false)]
theorem plk_4_0 : (fun e : Nat × Nat × Nat × FieldType × Bool => PG RX4 e.1 e.2.1 e.2.2.1 e.2.2.2.1 e.2.2.2.2) ((7, 5, 0, tyX4 0, true)) := PG.mk' (i := 4) (k := 0) (by decide) (by decide) rfl (by decide) (Or.inl q2776) (Or.inl rfl) rfl rfl (fun _ => rfl)
theorem plk_4_1 : (fun e : Nat × Nat × Nat × FieldType × Bool => PG RX4 e.1 e.2.1 e.2.2.1 e.2.2.2.1 e.2.2.2.2) ((13, 5, 1, tyX4 1, true)) := PG.mk' (i := 4) (k := 1) (by decide) (by decide) rfl (by decide) (Or.inl q2777) (Or.inl rfl) rfl rfl (fun _ => rfl)
theorem plk_4_2 : (fun e : Nat × Nat × Nat × FieldType × Bool => PG RX4 e.1 e.2.1 e.2.2.1 e.2.2.2.1 e.2.2.2.2) ((16, 5, 2, tyX4 2, true)) := PG.mk' (i := 4) (k := 2) (by decide) (by decide) rfl (by decide) (Or.inl q2778) (Or.inl rfl) rfl rfl (fun _ => rfl)
theorem plk_4_3 : (fun e : Nat × Nat × Nat × FieldType × Bool => PG RX4 e.1 e.2.1 e.2.2.1 e.2.2.2.1 e.2.2.2.2) ((19, 5, 3, tyX4 3, true)) := PG.mk' (i := 4) (k := 3) (by decide) (by decide) rfl (by decide) (Or.inl q2779) (Or.inl rfl) rfl rfl (fun _ => rfl)
theorem plk_4_4 : (fun e : Nat × Nat × Nat × FieldType × Bool => PG RX4 e.1 e.2.1 e.2.2.1 e.2.2.2.1 e.2.2.2.2) ((22, 5, 4, tyX4 4, true)) := PG.mk' (i := 4) (k := 4) (by decide) (by decide) rfl (by decide) (Or.inl q2780) (Or.inl rfl) rfl rfl (fun _ => rfl)
theorem plk_4_5 : (fun e : Nat × Nat × Nat × FieldType × Bool => PG RX4 e.1 e.2.1 e.2.2.1 e.2.2.2.1 e.2.2.2.2) ((25, 5, 8, tyX4 8, true)) := PG.mk' (i := 4) (k := 8) (by decide) (by decide) rfl (by decide) (Or.inl q2784) (Or.inl rfl) rfl rfl (fun _ => rfl)
theorem plk_4_6 : (fun e : Nat × Nat × Nat × FieldType × Bool => PG RX4 e.1 e.2.1 e.2.2.1 e.2.2.2.1 e.2.2.2.2) ((28, 5, 9, tyX4 9, true)) := PG.mk' (i := 4) (k := 9) (by decide) (by decide) rfl (by decide) (Or.inl q2785) (Or.inl rfl) rfl rfl (fun _ => rfl)
theorem plk_4_7 : (fun e : Nat × Nat × Nat × FieldType × Bool => PG RX4 e.1 e.2.1 e.2.2.1 e.2.2.2.1 e.2.2.2.2) ((32, 5, 10, tyX4 10, true)) := PG.mk' (i := 4) (k := 10) (by decide) (by decide) rfl (by decide) (Or.inl q2786) (Or.inl rfl) rfl rfl (fun _ => rfl)
theorem plk_4_8 : (fun e : Nat × Nat × Nat × FieldType × Bool => PG RX4 e.1 e.2.1 e.2.2.1 e.2.2.2.1 e.2.2.2.2) ((35, 5, 14, tyX4 14, true)) := PG.mk' (i := 4) (k := 14) (by decide) (by decide) rfl (by decide) (Or.inl q2790) (Or.inl rfl) rfl rfl (fun _ => rfl)
theorem plk_4_9 : (fun e : Nat × Nat × Nat × FieldType × Bool => PG RX4 e.1 e.2.1 e.2.2.1 e.2.2.2.1 e.2.2.2.2) ((46, 5, 6, tyX4 6, false)) := PG.mk' (i := 4) (k := 6) (by decide) (by decide) rfl (by decide) (Or.inl q2782) (Or.inl rfl) rfl rfl (fun h => by cases h)
theorem plk_4_10 : (fun e : Nat × Nat × Nat × FieldType × Bool => PG RX4 e.1 e.2.1 e.2.2.1 e.2.2.2.1 e.2.2.2.2) ((50, 5, 5, tyX4 5, false)) := PG.mk' (i := 4) (k := 5) (by decide) (by decide) rfl (by decide) (Or.inl q2781) (Or.inl rfl) rfl rfl (fun h => by cases h)
theorem plk_4_11 : (fun e : Nat × Nat × Nat × FieldType × Bool => PG RX4 e.1 e.2.1 e.2.2.1 e.2.2.2.1 e.2.2.2.2) ((92, 5, 13, tyX4 13, false)) := PG.mk' (i := 4) (k := 13) (by decide) (by decide) rfl (by decide) (Or.inl q2789) (Or.inl rfl) rfl rfl (fun h => by cases h)
theorem plk_4_12 : (fun e : Nat × Nat × Nat × FieldType × Bool => PG RX4 e.1 e.2.1 e.2.2.1 e.2.2.2.1 e.2.2.2.2) ((111, 5, 11, tyX4 11, false)) := PG.mk' (i := 4) (k := 11) (by decide) (by decide) rfl (by decide) (Or.inl q2787) (Or.inl rfl) rfl rfl (fun h => by cases h)
theorem plk_4_13 : (fun e : Nat × Nat × Nat × FieldType × Bool => PG RX4 e.1 e.2.1 e.2.2.1 e.2.2.2.1 e.2.2.2.2) ((108, 5, 12, tyX4 12, false)) := PG.mk' (i := 4) (k := 12) (by decide) (by decide) rfl (by decide) (Or.inl q2788) (Or.inl rfl) rfl rfl (fun h => by cases h)
theorem plk_4_14 : (fun e : Nat × Nat × Nat × FieldType × Bool => PG RX4 e.1 e.2.1 e.2.2.1 e.2.2.2.1 e.2.2.2.2) ((216, 5, 7, tyX4 7, false)) := PG.mk' (i := 4) (k := 7) (by decide) (by decide) rfl (by decide) (Or.inl q2783) (Or.inl rfl) rfl rfl (fun h => by cases h)
theorem plk_4_15 : (fun e : Nat × Nat × Nat × FieldType × Bool => PG RX4 e.1 e.2.1 e.2.2.1 e.2.2.2.1 e.2.2.2.2) ((219, 5, 15, tyX4 15, false)) := PG.mk' (i := 4) (k := 15) (by decide) (by decide) rfl (by decide) (Or.inl q2791) (Or.inl rfl) rfl rfl (fun h => by cases h)
theorem plk_4_16 : (fun e : Nat × Nat × Nat × FieldType × Bool => PG RX4 e.1 e.2.1 e.2.2.1 e.2.2.2.1 e.2.2.2.2) ((231, 5, 18, tyX4 18, false)) := PG.mk' (i := 4) (k := 18) (by decide) (by decide) rfl (by decide) (Or.inl q2794) (Or.inl rfl) rfl rfl (fun h => by cases h)
theorem plk_4_17 : (fun e : Nat × Nat × Nat × FieldType × Bool => PG RX4 e.1 e.2.1 e.2.2.1 e.2.2.2.1 e.2.2.2.2) ((228, 5, 16, tyX4 16, false)) := PG.mk' (i := 4) (k := 16) (by decide) (by decide) rfl (by decide) (Or.inl q2792) (Or.inl rfl) rfl rfl (fun h => by cases h)
theorem plk_4_18 : (fun e : Nat × Nat × Nat × FieldType × Bool => PG RX4 e.1 e.2.1 e.2.2.1 e.2.2.2.1 e.2.2.2.2) ((234, 5, 17, tyX4 17, false)) := PG.mk' (i := 4) (k := 17) (by decide) (by decide) rfl (by decide) (Or.inl q2793) (Or.inl rfl) rfl rfl (fun h => by cases h)
theorem plk_4_ok : ∀ e ∈ plk_4, PG RX4 e.1 e.2.1 e.2.2.1 e.2.2.2.1 e.2.2.2.2 := List.forall_mem_cons.mpr ⟨plk_4_0, List.forall_mem_cons.mpr ⟨plk_4_1, List.forall_mem_cons.mpr ⟨plk_4_2, List.forall_mem_cons.mpr ⟨plk_4_3, List.forall_mem_cons.mpr ⟨plk_4_4, List.forall_mem_cons.mpr ⟨plk_4_5, List.forall_mem_cons.mpr ⟨plk_4_6, List.forall_mem_cons.mpr ⟨plk_4_7, List.forall_mem_cons.mpr ⟨plk_4_8, List.forall_mem_cons.mpr ⟨plk_4_9, List.forall_mem_cons.mpr ⟨plk_4_10, List.forall_mem_cons.mpr ⟨plk_4_11, List.forall_mem_cons.mpr ⟨plk_4_12, List.forall_mem_cons.mpr ⟨plk_4_13, List.forall_mem_cons.mpr ⟨plk_4_14, List.forall_mem_cons.mpr ⟨plk_4_15, List.forall_mem_cons.mpr ⟨plk_4_16, List.forall_mem_cons.mpr ⟨plk_4_17, List.forall_mem_cons.mpr ⟨plk_4_18, fun _ h => absurd h List.not_mem_nil⟩⟩⟩⟩⟩⟩⟩⟩⟩⟩⟩⟩⟩⟩⟩⟩⟩⟩⟩
def nlk_4 : List (Nat × Nat) := []
theorem nlk_4_ok : ∀ e ∈ nlk_4, NG RX4 e.1 e.2 := fun _ h => absurd h List.not_mem_nil
def cls_4 : List (Nat × Nat × Nat) := [(38, 3, 97), (54, 1, 98), (58, 1, 99), (97, 2, 122), (150, 1, 132)]
theorem cls_4_0 : (fun e : Nat × Nat × Nat => CS RX4 (.invokestatic e.1) 3 0 e.2.1 (mth e.2.2)) ((38, 3, 97)) := CS.S mk_X4_in q2843 q2844 (by decide +kernel) (by decide +kernel)
theorem cls_4_1 : (fun e : Nat × Nat × Nat => CS RX4 (.invokestatic e.1) 3 0 e.2.1 (mth e.2.2)) ((54, 1, 98)) := CS.S mk_X4_least q2846 q2847 (by decide +kernel) (by decide +kernel)
theorem cls_4_2 : (fun e : Nat × Nat × Nat => CS RX4 (.invokestatic e.1) 3 0 e.2.1 (mth e.2.2)) ((58, 1, 99)) := CS.S mk_X4_most q2849 q2850 (by decide +kernel) (by decide +kernel)
theorem cls_4_3 : (fun e : Nat × Nat × Nat => CS RX4 (.invokestatic e.1) 3 0 e.2.1 (mth e.2.2)) ((97, 2, 122)) := CS.S mk_X4_neighbour q2945 q2946 (by decide +kernel) (by decide +kernel)
theorem cls_4_4 : (fun e : Nat × Nat × Nat => CS RX4 (.invokestatic e.1) 3 0 e.2.1 (mth e.2.2)) ((150, 1, 132)) := CS.S mk_X4_bits q2984 q2985 (by decide +kernel) (by decide +kernel)
theorem cls_4_ok : ∀ e ∈ cls_4, CS RX4 (.invokestatic e.1) 3 0 e.2.1 (mth e.2.2) := List.forall_mem_cons.mpr ⟨cls_4_0, List.forall_mem_cons.mpr ⟨cls_4_1, List.forall_mem_cons.mpr ⟨cls_4_2, List.forall_mem_cons.mpr ⟨cls_4_3, List.forall_mem_cons.mpr ⟨cls_4_4, fun _ h => absurd h List.not_mem_nil⟩⟩⟩⟩⟩
def cli_4 : List (Nat × Nat × Nat) := [(1, 1, 354)]
theorem cli_4_0 : (fun e : Nat × Nat × Nat => ∀ tag, tag ≠ 0 → CS RX4 (.invokespecial e.1) 3 tag e.2.1 (mth e.2.2)) ((1, 1, 354)) := fun tag ht => CS.I mk_J45_init q2775 q163 rfl rfl ht (by decide +kernel) (by decide +kernel)
theorem cli_4_ok : ∀ e ∈ cli_4, ∀ tag, tag ≠ 0 → CS RX4 (.invokespecial e.1) 3 tag e.2.1 (mth e.2.2) := List.forall_mem_cons.mpr ⟨cli_4_0, fun _ h => absurd h List.not_mem_nil⟩
def clv_4 : List (Instr × Nat × Nat × Nat × Nat) := [((.invokevirtual 62), 3, 5, 1, 100), ((.invokevirtual 65), 3, 5, 2, 101), ((.invokevirtual 68), 3, 5, 2, 103), ((.invokevirtual 72), 3, 5, 1, 104), ((.invokevirtual 77), 3, 5, 2, 107), ((.invokevirtual 42), 3, 5, 3, 108), ((.invokevirtual 81), 3, 5, 4, 109), ((.invokevirtual 86), 3, 5, 2, 111), ((.invokevirtual 89), 3, 5, 2, 112), ((.invokevirtual 141), 3, 5, 2, 116), ((.invokevirtual 131), 3, 5, 2, 117), ((.invokevirtual 134), 3, 5, 3, 118), ((.invokevirtual 138), 3, 5, 2, 125), ((.invokevirtual 117), 3, 5, 3, 119), ((.invokevirtual 121), 3, 5, 3, 120), ((.invokevirtual 104), 3, 5, 2, 121), ((.invokevirtual 114), 3, 5, 3, 124), ((.invokevirtual 100), 3, 5, 4, 123), ((.invokevirtual 162), 3, 5, 2, 127), ((.invokevirtual 144), 3, 5, 1, 128), ((.invokevirtual 147), 3, 5, 1, 131), ((.invokevirtual 128), 3, 5, 2, 129), ((.invokevirtual 153), 3, 5, 4, 133), ((.invokevirtual 156), 3, 5, 4, 134), ((.invokevirtual 159), 3, 5, 2, 135), ((.invokevirtual 125), 3, 5, 2, 130), ((.invokevirtual 165), 3, 5, 2, 137), ((.invokevirtual 180), 3, 5, 2, 139), ((.invokevirtual 171), 3, 5, 2, 140), ((.invokevirtual 168), 3, 5, 3, 141), ((.invokevirtual 174), 3, 5, 2, 142), ((.invokevirtual 177), 3, 5, 1, 143), ((.invokevirtual 195), 3, 5, 1, 145), ((.invokevirtual 189), 3, 5, 2, 146), ((.invokevirtual 183), 3, 5, 2, 147), ((.invokevirtual 192), 3, 5, 2, 148), ((.invokevirtual 186), 3, 5, 3, 149), ((.invokevirtual 198), 3, 5, 2, 151), ((.invokevirtual 201), 3, 5, 3, 153), ((.invokevirtual 204), 3, 5, 4, 158), ((.invokevirtual 207), 3, 5, 2, 163), ((.invokevirtual 210), 3, 5, 3, 164), ((.invokevirtual 213), 3, 5, 1, 165), ((.invokevirtual 240), 3, 5, 1, 169), ((.invokevirtual 243), 3, 5, 1, 173), ((.invokevirtual 237), 3, 5, 1, 170), ((.invokevirtual 222), 3, 5, 1, 171), ((.invokevirtual 225), 3, 5, 1, 172)]
theorem clv_4_0 : (fun e : Instr × Nat × Nat × Nat × Nat => CS RX4 e.1 e.2.1 e.2.2.1 e.2.2.2.1 (mth e.2.2.2.2)) (((.invokevirtual 62), 3, 5, 1, 100)) := CS.V (i := 4) mk_X4_copy ⟨by decide, Or.inl rfl, rfl⟩ rfl q2853 q2855 qs49 (by decide +kernel) (by decide +kernel)
theorem clv_4_1 : (fun e : Instr × Nat × Nat × Nat × Nat => CS RX4 e.1 e.2.1 e.2.2.1 e.2.2.2.1 (mth e.2.2.2.2)) (((.invokevirtual 65), 3, 5, 2, 101)) := CS.V (i := 4) mk_X4_recorded ⟨by decide, Or.inl rfl, rfl⟩ rfl q2857 q2859 qs50 (by decide +kernel) (by decide +kernel)
theorem clv_4_2 : (fun e : Instr × Nat × Nat × Nat × Nat => CS RX4 e.1 e.2.1 e.2.2.1 e.2.2.2.1 (mth e.2.2.2.2)) (((.invokevirtual 68), 3, 5, 2, 103)) := CS.V (i := 4) mk_X4_isFree ⟨by decide, Or.inl rfl, rfl⟩ rfl q2865 q2867 qs51 (by decide +kernel) (by decide +kernel)
theorem clv_4_3 : (fun e : Instr × Nat × Nat × Nat × Nat => CS RX4 e.1 e.2.1 e.2.2.1 e.2.2.2.1 (mth e.2.2.2.2)) (((.invokevirtual 72), 3, 5, 1, 104)) := CS.V (i := 4) mk_X4_blockedMany ⟨by decide, Or.inl rfl, rfl⟩ rfl q2869 q2871 qs52 (by decide +kernel) (by decide +kernel)
theorem clv_4_4 : (fun e : Instr × Nat × Nat × Nat × Nat => CS RX4 e.1 e.2.1 e.2.2.1 e.2.2.2.1 (mth e.2.2.2.2)) (((.invokevirtual 77), 3, 5, 2, 107)) := CS.V (i := 4) mk_X4_isNet ⟨by decide, Or.inl rfl, rfl⟩ rfl q2882 q2884 qs53 (by decide +kernel) (by decide +kernel)
theorem clv_4_5 : (fun e : Instr × Nat × Nat × Nat × Nat => CS RX4 e.1 e.2.1 e.2.2.1 e.2.2.2.1 (mth e.2.2.2.2)) (((.invokevirtual 42), 3, 5, 3, 108)) := CS.V (i := 4) mk_X4_of ⟨by decide, Or.inl rfl, rfl⟩ rfl q2886 q2888 qs54 (by decide +kernel) (by decide +kernel)
theorem clv_4_6 : (fun e : Instr × Nat × Nat × Nat × Nat => CS RX4 e.1 e.2.1 e.2.2.1 e.2.2.2.1 (mth e.2.2.2.2)) (((.invokevirtual 81), 3, 5, 4, 109)) := CS.V (i := 4) mk_X4_adds ⟨by decide, Or.inl rfl, rfl⟩ rfl q2891 q2893 qs55 (by decide +kernel) (by decide +kernel)
theorem clv_4_7 : (fun e : Instr × Nat × Nat × Nat × Nat => CS RX4 e.1 e.2.1 e.2.2.1 e.2.2.2.1 (mth e.2.2.2.2)) (((.invokevirtual 86), 3, 5, 2, 111)) := CS.V (i := 4) mk_X4_wireMany ⟨by decide, Or.inl rfl, rfl⟩ rfl q2900 q2902 qs56 (by decide +kernel) (by decide +kernel)
theorem clv_4_8 : (fun e : Instr × Nat × Nat × Nat × Nat => CS RX4 e.1 e.2.1 e.2.2.1 e.2.2.2.1 (mth e.2.2.2.2)) (((.invokevirtual 89), 3, 5, 2, 112)) := CS.V (i := 4) mk_X4_viaMany ⟨by decide, Or.inl rfl, rfl⟩ rfl q2904 q2906 qs57 (by decide +kernel) (by decide +kernel)
theorem clv_4_9 : (fun e : Instr × Nat × Nat × Nat × Nat => CS RX4 e.1 e.2.1 e.2.2.1 e.2.2.2.1 (mth e.2.2.2.2)) (((.invokevirtual 141), 3, 5, 2, 116)) := CS.V (i := 4) mk_X4_lays ⟨by decide, Or.inl rfl, rfl⟩ rfl q2920 q2922 qs58 (by decide +kernel) (by decide +kernel)
theorem clv_4_10 : (fun e : Instr × Nat × Nat × Nat × Nat => CS RX4 e.1 e.2.1 e.2.2.1 e.2.2.2.1 (mth e.2.2.2.2)) (((.invokevirtual 131), 3, 5, 2, 117)) := CS.V (i := 4) mk_X4_isJoined ⟨by decide, Or.inl rfl, rfl⟩ rfl q2924 q2926 qs59 (by decide +kernel) (by decide +kernel)
theorem clv_4_11 : (fun e : Instr × Nat × Nat × Nat × Nat => CS RX4 e.1 e.2.1 e.2.2.1 e.2.2.2.1 (mth e.2.2.2.2)) (((.invokevirtual 134), 3, 5, 3, 118)) := CS.V (i := 4) mk_X4_routes ⟨by decide, Or.inl rfl, rfl⟩ rfl q2928 q2930 qs60 (by decide +kernel) (by decide +kernel)
theorem clv_4_12 : (fun e : Instr × Nat × Nat × Nat × Nat => CS RX4 e.1 e.2.1 e.2.2.1 e.2.2.2.1 (mth e.2.2.2.2)) (((.invokevirtual 138), 3, 5, 2, 125)) := CS.V (i := 4) mk_X4_wires ⟨by decide, Or.inl rfl, rfl⟩ rfl q2956 q2958 qs66 (by decide +kernel) (by decide +kernel)
theorem clv_4_13 : (fun e : Instr × Nat × Nat × Nat × Nat => CS RX4 e.1 e.2.1 e.2.2.1 e.2.2.2.1 (mth e.2.2.2.2)) (((.invokevirtual 117), 3, 5, 3, 119)) := CS.V (i := 4) mk_X4_joinsPin ⟨by decide, Or.inl rfl, rfl⟩ rfl q2932 q2934 qs61 (by decide +kernel) (by decide +kernel)
theorem clv_4_14 : (fun e : Instr × Nat × Nat × Nat × Nat => CS RX4 e.1 e.2.1 e.2.2.1 e.2.2.2.1 (mth e.2.2.2.2)) (((.invokevirtual 121), 3, 5, 3, 120)) := CS.V (i := 4) mk_X4_paths ⟨by decide, Or.inl rfl, rfl⟩ rfl q2936 q2938 qs62 (by decide +kernel) (by decide +kernel)
theorem clv_4_15 : (fun e : Instr × Nat × Nat × Nat × Nat => CS RX4 e.1 e.2.1 e.2.2.1 e.2.2.2.1 (mth e.2.2.2.2)) (((.invokevirtual 104), 3, 5, 2, 121)) := CS.V (i := 4) mk_X4_measures ⟨by decide, Or.inl rfl, rfl⟩ rfl q2940 q2942 qs63 (by decide +kernel) (by decide +kernel)
theorem clv_4_16 : (fun e : Instr × Nat × Nat × Nat × Nat => CS RX4 e.1 e.2.1 e.2.2.1 e.2.2.2.1 (mth e.2.2.2.2)) (((.invokevirtual 114), 3, 5, 3, 124)) := CS.V (i := 4) mk_X4_nextOf ⟨by decide, Or.inl rfl, rfl⟩ rfl q2952 q2954 qs65 (by decide +kernel) (by decide +kernel)
theorem clv_4_17 : (fun e : Instr × Nat × Nat × Nat × Nat => CS RX4 e.1 e.2.1 e.2.2.1 e.2.2.2.1 (mth e.2.2.2.2)) (((.invokevirtual 100), 3, 5, 4, 123)) := CS.V (i := 4) mk_X4_into ⟨by decide, Or.inl rfl, rfl⟩ rfl q2948 q2950 qs64 (by decide +kernel) (by decide +kernel)
theorem clv_4_18 : (fun e : Instr × Nat × Nat × Nat × Nat => CS RX4 e.1 e.2.1 e.2.2.1 e.2.2.2.1 (mth e.2.2.2.2)) (((.invokevirtual 162), 3, 5, 2, 127)) := CS.V (i := 4) mk_X4_digsFor ⟨by decide, Or.inl rfl, rfl⟩ rfl q2964 q2966 qs67 (by decide +kernel) (by decide +kernel)
theorem clv_4_19 : (fun e : Instr × Nat × Nat × Nat × Nat => CS RX4 e.1 e.2.1 e.2.2.1 e.2.2.2.1 (mth e.2.2.2.2)) (((.invokevirtual 144), 3, 5, 1, 128)) := CS.V (i := 4) mk_X4_duesOf ⟨by decide, Or.inl rfl, rfl⟩ rfl q2968 q2970 qs68 (by decide +kernel) (by decide +kernel)
theorem clv_4_20 : (fun e : Instr × Nat × Nat × Nat × Nat => CS RX4 e.1 e.2.1 e.2.2.1 e.2.2.2.1 (mth e.2.2.2.2)) (((.invokevirtual 147), 3, 5, 1, 131)) := CS.V (i := 4) mk_X4_victimsOf ⟨by decide, Or.inl rfl, rfl⟩ rfl q2980 q2982 qs71 (by decide +kernel) (by decide +kernel)
theorem clv_4_21 : (fun e : Instr × Nat × Nat × Nat × Nat => CS RX4 e.1 e.2.1 e.2.2.1 e.2.2.2.1 (mth e.2.2.2.2)) (((.invokevirtual 128), 3, 5, 2, 129)) := CS.V (i := 4) mk_X4_due ⟨by decide, Or.inl rfl, rfl⟩ rfl q2972 q2974 qs69 (by decide +kernel) (by decide +kernel)
theorem clv_4_22 : (fun e : Instr × Nat × Nat × Nat × Nat => CS RX4 e.1 e.2.1 e.2.2.1 e.2.2.2.1 (mth e.2.2.2.2)) (((.invokevirtual 153), 3, 5, 4, 133)) := CS.V (i := 4) mk_X4_pays ⟨by decide, Or.inl rfl, rfl⟩ rfl q2987 q2989 qs72 (by decide +kernel) (by decide +kernel)
theorem clv_4_23 : (fun e : Instr × Nat × Nat × Nat × Nat => CS RX4 e.1 e.2.1 e.2.2.1 e.2.2.2.1 (mth e.2.2.2.2)) (((.invokevirtual 156), 3, 5, 4, 134)) := CS.V (i := 4) mk_X4_claims ⟨by decide, Or.inl rfl, rfl⟩ rfl q2991 q2993 qs73 (by decide +kernel) (by decide +kernel)
theorem clv_4_24 : (fun e : Instr × Nat × Nat × Nat × Nat => CS RX4 e.1 e.2.1 e.2.2.1 e.2.2.2.1 (mth e.2.2.2.2)) (((.invokevirtual 159), 3, 5, 2, 135)) := CS.V (i := 4) mk_X4_loses ⟨by decide, Or.inl rfl, rfl⟩ rfl q2995 q2997 qs74 (by decide +kernel) (by decide +kernel)
theorem clv_4_25 : (fun e : Instr × Nat × Nat × Nat × Nat => CS RX4 e.1 e.2.1 e.2.2.1 e.2.2.2.1 (mth e.2.2.2.2)) (((.invokevirtual 125), 3, 5, 2, 130)) := CS.V (i := 4) mk_X4_through ⟨by decide, Or.inl rfl, rfl⟩ rfl q2976 q2978 qs70 (by decide +kernel) (by decide +kernel)
theorem clv_4_26 : (fun e : Instr × Nat × Nat × Nat × Nat => CS RX4 e.1 e.2.1 e.2.2.1 e.2.2.2.1 (mth e.2.2.2.2)) (((.invokevirtual 165), 3, 5, 2, 137)) := CS.V (i := 4) mk_X4_rips ⟨by decide, Or.inl rfl, rfl⟩ rfl q3003 q3005 qs75 (by decide +kernel) (by decide +kernel)
theorem clv_4_27 : (fun e : Instr × Nat × Nat × Nat × Nat => CS RX4 e.1 e.2.1 e.2.2.1 e.2.2.2.1 (mth e.2.2.2.2)) (((.invokevirtual 180), 3, 5, 2, 139)) := CS.V (i := 4) mk_X4_appeals ⟨by decide, Or.inl rfl, rfl⟩ rfl q3011 q3013 qs76 (by decide +kernel) (by decide +kernel)
theorem clv_4_28 : (fun e : Instr × Nat × Nat × Nat × Nat => CS RX4 e.1 e.2.1 e.2.2.1 e.2.2.2.1 (mth e.2.2.2.2)) (((.invokevirtual 171), 3, 5, 2, 140)) := CS.V (i := 4) mk_X4_isClaim ⟨by decide, Or.inl rfl, rfl⟩ rfl q3015 q3017 qs77 (by decide +kernel) (by decide +kernel)
theorem clv_4_29 : (fun e : Instr × Nat × Nat × Nat × Nat => CS RX4 e.1 e.2.1 e.2.2.1 e.2.2.2.1 (mth e.2.2.2.2)) (((.invokevirtual 168), 3, 5, 3, 141)) := CS.V (i := 4) mk_X4_claimAt ⟨by decide, Or.inl rfl, rfl⟩ rfl q3019 q3021 qs78 (by decide +kernel) (by decide +kernel)
theorem clv_4_30 : (fun e : Instr × Nat × Nat × Nat × Nat => CS RX4 e.1 e.2.1 e.2.2.1 e.2.2.2.1 (mth e.2.2.2.2)) (((.invokevirtual 174), 3, 5, 2, 142)) := CS.V (i := 4) mk_X4_since ⟨by decide, Or.inl rfl, rfl⟩ rfl q3023 q3025 qs79 (by decide +kernel) (by decide +kernel)
theorem clv_4_31 : (fun e : Instr × Nat × Nat × Nat × Nat => CS RX4 e.1 e.2.1 e.2.2.1 e.2.2.2.1 (mth e.2.2.2.2)) (((.invokevirtual 177), 3, 5, 1, 143)) := CS.V (i := 4) mk_X4_appealMany ⟨by decide, Or.inl rfl, rfl⟩ rfl q3027 q3029 qs80 (by decide +kernel) (by decide +kernel)
theorem clv_4_32 : (fun e : Instr × Nat × Nat × Nat × Nat => CS RX4 e.1 e.2.1 e.2.2.1 e.2.2.2.1 (mth e.2.2.2.2)) (((.invokevirtual 195), 3, 5, 1, 145)) := CS.V (i := 4) mk_X4_hears ⟨by decide, Or.inl rfl, rfl⟩ rfl q3035 q3037 qs81 (by decide +kernel) (by decide +kernel)
theorem clv_4_33 : (fun e : Instr × Nat × Nat × Nat × Nat => CS RX4 e.1 e.2.1 e.2.2.1 e.2.2.2.1 (mth e.2.2.2.2)) (((.invokevirtual 189), 3, 5, 2, 146)) := CS.V (i := 4) mk_X4_heard ⟨by decide, Or.inl rfl, rfl⟩ rfl q3039 q3041 qs82 (by decide +kernel) (by decide +kernel)
theorem clv_4_34 : (fun e : Instr × Nat × Nat × Nat × Nat => CS RX4 e.1 e.2.1 e.2.2.1 e.2.2.2.1 (mth e.2.2.2.2)) (((.invokevirtual 183), 3, 5, 2, 147)) := CS.V (i := 4) mk_X4_loss ⟨by decide, Or.inl rfl, rfl⟩ rfl q3043 q3045 qs83 (by decide +kernel) (by decide +kernel)
theorem clv_4_35 : (fun e : Instr × Nat × Nat × Nat × Nat => CS RX4 e.1 e.2.1 e.2.2.1 e.2.2.2.1 (mth e.2.2.2.2)) (((.invokevirtual 192), 3, 5, 2, 148)) := CS.V (i := 4) mk_X4_comesBack ⟨by decide, Or.inl rfl, rfl⟩ rfl q3047 q3049 qs84 (by decide +kernel) (by decide +kernel)
theorem clv_4_36 : (fun e : Instr × Nat × Nat × Nat × Nat => CS RX4 e.1 e.2.1 e.2.2.1 e.2.2.2.1 (mth e.2.2.2.2)) (((.invokevirtual 186), 3, 5, 3, 149)) := CS.V (i := 4) mk_X4_was ⟨by decide, Or.inl rfl, rfl⟩ rfl q3051 q3053 qs85 (by decide +kernel) (by decide +kernel)
theorem clv_4_37 : (fun e : Instr × Nat × Nat × Nat × Nat => CS RX4 e.1 e.2.1 e.2.2.1 e.2.2.2.1 (mth e.2.2.2.2)) (((.invokevirtual 198), 3, 5, 2, 151)) := CS.V (i := 4) mk_X4_passes ⟨by decide, Or.inl rfl, rfl⟩ rfl q3059 q3061 qs86 (by decide +kernel) (by decide +kernel)
theorem clv_4_38 : (fun e : Instr × Nat × Nat × Nat × Nat => CS RX4 e.1 e.2.1 e.2.2.1 e.2.2.2.1 (mth e.2.2.2.2)) (((.invokevirtual 201), 3, 5, 3, 153)) := CS.V (i := 4) mk_X4_refused ⟨by decide, Or.inl rfl, rfl⟩ rfl q3067 q3069 qs87 (by decide +kernel) (by decide +kernel)
theorem clv_4_39 : (fun e : Instr × Nat × Nat × Nat × Nat => CS RX4 e.1 e.2.1 e.2.2.1 e.2.2.2.1 (mth e.2.2.2.2)) (((.invokevirtual 204), 3, 5, 4, 158)) := CS.V (i := 4) mk_X4_ordered ⟨by decide, Or.inl rfl, rfl⟩ rfl q3087 q3089 qs88 (by decide +kernel) (by decide +kernel)
theorem clv_4_40 : (fun e : Instr × Nat × Nat × Nat × Nat => CS RX4 e.1 e.2.1 e.2.2.1 e.2.2.2.1 (mth e.2.2.2.2)) (((.invokevirtual 207), 3, 5, 2, 163)) := CS.V (i := 4) mk_X4_overNets ⟨by decide, Or.inl rfl, rfl⟩ rfl q3107 q3109 qs89 (by decide +kernel) (by decide +kernel)
theorem clv_4_41 : (fun e : Instr × Nat × Nat × Nat × Nat => CS RX4 e.1 e.2.1 e.2.2.1 e.2.2.2.1 (mth e.2.2.2.2)) (((.invokevirtual 210), 3, 5, 3, 164)) := CS.V (i := 4) mk_X4_cellsThat ⟨by decide, Or.inl rfl, rfl⟩ rfl q3111 q3113 qs90 (by decide +kernel) (by decide +kernel)
theorem clv_4_42 : (fun e : Instr × Nat × Nat × Nat × Nat => CS RX4 e.1 e.2.1 e.2.2.1 e.2.2.2.1 (mth e.2.2.2.2)) (((.invokevirtual 213), 3, 5, 1, 165)) := CS.V (i := 4) mk_X4_crossings ⟨by decide, Or.inl rfl, rfl⟩ rfl q3115 q3117 qs91 (by decide +kernel) (by decide +kernel)
theorem clv_4_43 : (fun e : Instr × Nat × Nat × Nat × Nat => CS RX4 e.1 e.2.1 e.2.2.1 e.2.2.2.1 (mth e.2.2.2.2)) (((.invokevirtual 240), 3, 5, 1, 169)) := CS.V (i := 4) mk_X4_tries ⟨by decide, Or.inl rfl, rfl⟩ rfl q3131 q3133 qs92 (by decide +kernel) (by decide +kernel)
theorem clv_4_44 : (fun e : Instr × Nat × Nat × Nat × Nat => CS RX4 e.1 e.2.1 e.2.2.1 e.2.2.2.1 (mth e.2.2.2.2)) (((.invokevirtual 243), 3, 5, 1, 173)) := CS.V (i := 4) mk_X4_back ⟨by decide, Or.inl rfl, rfl⟩ rfl q3147 q3149 qs96 (by decide +kernel) (by decide +kernel)
theorem clv_4_45 : (fun e : Instr × Nat × Nat × Nat × Nat => CS RX4 e.1 e.2.1 e.2.2.1 e.2.2.2.1 (mth e.2.2.2.2)) (((.invokevirtual 237), 3, 5, 1, 170)) := CS.V (i := 4) mk_X4_order ⟨by decide, Or.inl rfl, rfl⟩ rfl q3135 q3137 qs93 (by decide +kernel) (by decide +kernel)
theorem clv_4_46 : (fun e : Instr × Nat × Nat × Nat × Nat => CS RX4 e.1 e.2.1 e.2.2.1 e.2.2.2.1 (mth e.2.2.2.2)) (((.invokevirtual 222), 3, 5, 1, 171)) := CS.V (i := 4) mk_X4_here ⟨by decide, Or.inl rfl, rfl⟩ rfl q3139 q3141 qs94 (by decide +kernel) (by decide +kernel)
theorem clv_4_47 : (fun e : Instr × Nat × Nat × Nat × Nat => CS RX4 e.1 e.2.1 e.2.2.1 e.2.2.2.1 (mth e.2.2.2.2)) (((.invokevirtual 225), 3, 5, 1, 172)) := CS.V (i := 4) mk_X4_number ⟨by decide, Or.inl rfl, rfl⟩ rfl q3143 q3145 qs95 (by decide +kernel) (by decide +kernel)
theorem clv_4_ok : ∀ e ∈ clv_4, CS RX4 e.1 e.2.1 e.2.2.1 e.2.2.2.1 (mth e.2.2.2.2) := List.forall_mem_cons.mpr ⟨clv_4_0, List.forall_mem_cons.mpr ⟨clv_4_1, List.forall_mem_cons.mpr ⟨clv_4_2, List.forall_mem_cons.mpr ⟨clv_4_3, List.forall_mem_cons.mpr ⟨clv_4_4, List.forall_mem_cons.mpr ⟨clv_4_5, List.forall_mem_cons.mpr ⟨clv_4_6, List.forall_mem_cons.mpr ⟨clv_4_7, List.forall_mem_cons.mpr ⟨clv_4_8, List.forall_mem_cons.mpr ⟨clv_4_9, List.forall_mem_cons.mpr ⟨clv_4_10, List.forall_mem_cons.mpr ⟨clv_4_11, List.forall_mem_cons.mpr ⟨clv_4_12, List.forall_mem_cons.mpr ⟨clv_4_13, List.forall_mem_cons.mpr ⟨clv_4_14, List.forall_mem_cons.mpr ⟨clv_4_15, List.forall_mem_cons.mpr ⟨clv_4_16, List.forall_mem_cons.mpr ⟨clv_4_17, List.forall_mem_cons.mpr ⟨clv_4_18, List.forall_mem_cons.mpr ⟨clv_4_19, List.forall_mem_cons.mpr ⟨clv_4_20, List.forall_mem_cons.mpr ⟨clv_4_21, List.forall_mem_cons.mpr ⟨clv_4_22, List.forall_mem_cons.mpr ⟨clv_4_23, List.forall_mem_cons.mpr ⟨clv_4_24, List.forall_mem_cons.mpr ⟨clv_4_25, List.forall_mem_cons.mpr ⟨clv_4_26, List.forall_mem_cons.mpr ⟨clv_4_27, List.forall_mem_cons.mpr ⟨clv_4_28, List.forall_mem_cons.mpr ⟨clv_4_29, List.forall_mem_cons.mpr ⟨clv_4_30, List.forall_mem_cons.mpr ⟨clv_4_31, List.forall_mem_cons.mpr ⟨clv_4_32, List.forall_mem_cons.mpr ⟨clv_4_33, List.forall_mem_cons.mpr ⟨clv_4_34, List.forall_mem_cons.mpr ⟨clv_4_35, List.forall_mem_cons.mpr ⟨clv_4_36, List.forall_mem_cons.mpr ⟨clv_4_37, List.forall_mem_cons.mpr ⟨clv_4_38, List.forall_mem_cons.mpr ⟨clv_4_39, List.forall_mem_cons.mpr ⟨clv_4_40, List.forall_mem_cons.mpr ⟨clv_4_41, List.forall_mem_cons.mpr ⟨clv_4_42, List.forall_mem_cons.mpr ⟨clv_4_43, List.forall_mem_cons.mpr ⟨clv_4_44, List.forall_mem_cons.mpr ⟨clv_4_45, List.forall_mem_cons.mpr ⟨clv_4_46, List.forall_mem_cons.mpr ⟨clv_4_47, fun _ h => absurd h List.not_mem_nil⟩⟩⟩⟩⟩⟩⟩⟩⟩⟩⟩⟩⟩⟩⟩⟩⟩⟩⟩⟩⟩⟩⟩⟩⟩⟩⟩⟩⟩⟩⟩⟩⟩⟩⟩⟩⟩⟩⟩⟩⟩⟩⟩⟩⟩⟩⟩⟩
def klk_4 : List (Nat × Nat) := []
theorem klk_4_ok : ∀ e ∈ klk_4, CG RX4 e.1 e.2 := fun _ h => absurd h List.not_mem_nil
def ilk_4 : List (Nat × Nat) := []
theorem ilk_4_ok : ∀ e ∈ ilk_4, CG RX4 e.1 e.2 := fun _ h => absurd h List.not_mem_nil
def slk_4 : List (Nat × Nat) := []
theorem slk_4_ok : ∀ e ∈ slk_4, GS RX4 e.1 e.2 := fun _ h => absurd h List.not_mem_nil
def alk_4 : List (Nat × Nat) := []
theorem alk_4_ok : ∀ e ∈ alk_4, AG RX4 e.1 e.2 := fun _ h => absurd h List.not_mem_nil
def dlk_4 : List (Nat × Int) := [(53, -1000002), (61, -1000001), (76, -1000003), (80, 100000), (85, -1000004), (96, 1000000000)]
theorem dlk_4_0 : (fun e : Nat × Int => Cond.constant RX4 e.1 (iI e.2) ∈ lw_all) ((53, -1000002)) := q2838
theorem dlk_4_1 : (fun e : Nat × Int => Cond.constant RX4 e.1 (iI e.2) ∈ lw_all) ((61, -1000001)) := q2852
theorem dlk_4_2 : (fun e : Nat × Int => Cond.constant RX4 e.1 (iI e.2) ∈ lw_all) ((76, -1000003)) := q2877
theorem dlk_4_3 : (fun e : Nat × Int => Cond.constant RX4 e.1 (iI e.2) ∈ lw_all) ((80, 100000)) := q2890
theorem dlk_4_4 : (fun e : Nat × Int => Cond.constant RX4 e.1 (iI e.2) ∈ lw_all) ((85, -1000004)) := q2899
theorem dlk_4_5 : (fun e : Nat × Int => Cond.constant RX4 e.1 (iI e.2) ∈ lw_all) ((96, 1000000000)) := q2944
theorem dlk_4_ok : ∀ e ∈ dlk_4, Cond.constant RX4 e.1 (iI e.2) ∈ lw_all := List.forall_mem_cons.mpr ⟨dlk_4_0, List.forall_mem_cons.mpr ⟨dlk_4_1, List.forall_mem_cons.mpr ⟨dlk_4_2, List.forall_mem_cons.mpr ⟨dlk_4_3, List.forall_mem_cons.mpr ⟨dlk_4_4, List.forall_mem_cons.mpr ⟨dlk_4_5, fun _ h => absurd h List.not_mem_nil⟩⟩⟩⟩⟩⟩
def d2k_4 : List (Nat × Int) := []
theorem d2k_4_ok : ∀ e ∈ d2k_4, Cond.constantLong RX4 e.1 (lI e.2) ∈ lw_all := fun _ h => absurd h List.not_mem_nil
def fck_4 : List (Nat × UInt32) := []
theorem fck_4_ok : ∀ e ∈ fck_4, Cond.constantFloat RX4 e.1 e.2 ∈ lw_all := fun _ h => absurd h List.not_mem_nil
def flk_5 : List (Nat × Nat × Nat) := [(16, 6, 0), (20, 6, 2), (23, 6, 4), (26, 6, 1), (33, 6, 5), (37, 6, 6), (40, 6, 7), (43, 6, 8), (10, 6, 3)]
theorem flk_5_0 : (fun e : Nat × Nat × Nat => FG RX5 e.1 e.2.1 e.2.2) ((16, 6, 0)) := FG.mk' (i := 5) (k := 0) (by decide) (by decide) rfl (by decide) (Or.inl q637) (Or.inl rfl) (Or.inl rfl)
theorem flk_5_1 : (fun e : Nat × Nat × Nat => FG RX5 e.1 e.2.1 e.2.2) ((20, 6, 2)) := FG.mk' (i := 5) (k := 2) (by decide) (by decide) rfl (by decide) (Or.inl q645) (Or.inl rfl) (Or.inl rfl)
theorem flk_5_2 : (fun e : Nat × Nat × Nat => FG RX5 e.1 e.2.1 e.2.2) ((23, 6, 4)) := FG.mk' (i := 5) (k := 4) (by decide) (by decide) rfl (by decide) (Or.inl q651) (Or.inl rfl) (Or.inl rfl)
theorem flk_5_3 : (fun e : Nat × Nat × Nat => FG RX5 e.1 e.2.1 e.2.2) ((26, 6, 1)) := FG.mk' (i := 5) (k := 1) (by decide) (by decide) rfl (by decide) (Or.inl q641) (Or.inl rfl) (Or.inl rfl)
theorem flk_5_4 : (fun e : Nat × Nat × Nat => FG RX5 e.1 e.2.1 e.2.2) ((33, 6, 5)) := FG.mk' (i := 5) (k := 5) (by decide) (by decide) rfl (by decide) (Or.inl q654) (Or.inl rfl) (Or.inl rfl)
theorem flk_5_5 : (fun e : Nat × Nat × Nat => FG RX5 e.1 e.2.1 e.2.2) ((37, 6, 6)) := FG.mk' (i := 5) (k := 6) (by decide) (by decide) rfl (by decide) (Or.inl q657) (Or.inl rfl) (Or.inl rfl)
theorem flk_5_6 : (fun e : Nat × Nat × Nat => FG RX5 e.1 e.2.1 e.2.2) ((40, 6, 7)) := FG.mk' (i := 5) (k := 7) (by decide) (by decide) rfl (by decide) (Or.inl q660) (Or.inl rfl) (Or.inl rfl)
theorem flk_5_7 : (fun e : Nat × Nat × Nat => FG RX5 e.1 e.2.1 e.2.2) ((43, 6, 8)) := FG.mk' (i := 5) (k := 8) (by decide) (by decide) rfl (by decide) (Or.inl q662) (Or.inl rfl) (Or.inl rfl)
theorem flk_5_8 : (fun e : Nat × Nat × Nat => FG RX5 e.1 e.2.1 e.2.2) ((10, 6, 3)) := FG.mk' (i := 5) (k := 3) (by decide) (by decide) rfl (by decide) (Or.inl q648) (Or.inl rfl) (Or.inl rfl)
theorem flk_5_ok : ∀ e ∈ flk_5, FG RX5 e.1 e.2.1 e.2.2 := List.forall_mem_cons.mpr ⟨flk_5_0, List.forall_mem_cons.mpr ⟨flk_5_1, List.forall_mem_cons.mpr ⟨flk_5_2, List.forall_mem_cons.mpr ⟨flk_5_3, List.forall_mem_cons.mpr ⟨flk_5_4, List.forall_mem_cons.mpr ⟨flk_5_5, List.forall_mem_cons.mpr ⟨flk_5_6, List.forall_mem_cons.mpr ⟨flk_5_7, List.forall_mem_cons.mpr ⟨flk_5_8, fun _ h => absurd h List.not_mem_nil⟩⟩⟩⟩⟩⟩⟩⟩⟩
def plk_5 : List (Nat × Nat × Nat × FieldType × Bool) := [(33, 6, 5, tyX5 5, false), (37, 6, 6, tyX5 6, false), (40, 6, 7, tyX5 7, false), (43, 6, 8, tyX5 8, false), (10, 6, 3, tyX5 3, true), (16, 6, 0, tyX5 0, true), (20, 6, 2, tyX5 2, true), (23, 6, 4, tyX5 4, false), (26, 6, 1, tyX5 1, true)]
theorem plk_5_0 : (fun e : Nat × Nat × Nat × FieldType × Bool => PG RX5 e.1 e.2.1 e.2.2.1 e.2.2.2.1 e.2.2.2.2) ((33, 6, 5, tyX5 5, false)) := PG.mk' (i := 5) (k := 5) (by decide) (by decide) rfl (by decide) (Or.inl q654) (Or.inl rfl) rfl rfl (fun h => by cases h)
theorem plk_5_1 : (fun e : Nat × Nat × Nat × FieldType × Bool => PG RX5 e.1 e.2.1 e.2.2.1 e.2.2.2.1 e.2.2.2.2) ((37, 6, 6, tyX5 6, false)) := PG.mk' (i := 5) (k := 6) (by decide) (by decide) rfl (by decide) (Or.inl q657) (Or.inl rfl) rfl rfl (fun h => by cases h)
theorem plk_5_2 : (fun e : Nat × Nat × Nat × FieldType × Bool => PG RX5 e.1 e.2.1 e.2.2.1 e.2.2.2.1 e.2.2.2.2) ((40, 6, 7, tyX5 7, false)) := PG.mk' (i := 5) (k := 7) (by decide) (by decide) rfl (by decide) (Or.inl q660) (Or.inl rfl) rfl rfl (fun h => by cases h)
theorem plk_5_3 : (fun e : Nat × Nat × Nat × FieldType × Bool => PG RX5 e.1 e.2.1 e.2.2.1 e.2.2.2.1 e.2.2.2.2) ((43, 6, 8, tyX5 8, false)) := PG.mk' (i := 5) (k := 8) (by decide) (by decide) rfl (by decide) (Or.inl q662) (Or.inl rfl) rfl rfl (fun h => by cases h)
theorem plk_5_4 : (fun e : Nat × Nat × Nat × FieldType × Bool => PG RX5 e.1 e.2.1 e.2.2.1 e.2.2.2.1 e.2.2.2.2) ((10, 6, 3, tyX5 3, true)) := PG.mk' (i := 5) (k := 3) (by decide) (by decide) rfl (by decide) (Or.inl q648) (Or.inl rfl) rfl rfl (fun _ => rfl)
theorem plk_5_5 : (fun e : Nat × Nat × Nat × FieldType × Bool => PG RX5 e.1 e.2.1 e.2.2.1 e.2.2.2.1 e.2.2.2.2) ((16, 6, 0, tyX5 0, true)) := PG.mk' (i := 5) (k := 0) (by decide) (by decide) rfl (by decide) (Or.inl q637) (Or.inl rfl) rfl rfl (fun _ => rfl)
theorem plk_5_6 : (fun e : Nat × Nat × Nat × FieldType × Bool => PG RX5 e.1 e.2.1 e.2.2.1 e.2.2.2.1 e.2.2.2.2) ((20, 6, 2, tyX5 2, true)) := PG.mk' (i := 5) (k := 2) (by decide) (by decide) rfl (by decide) (Or.inl q645) (Or.inl rfl) rfl rfl (fun _ => rfl)
theorem plk_5_7 : (fun e : Nat × Nat × Nat × FieldType × Bool => PG RX5 e.1 e.2.1 e.2.2.1 e.2.2.2.1 e.2.2.2.2) ((23, 6, 4, tyX5 4, false)) := PG.mk' (i := 5) (k := 4) (by decide) (by decide) rfl (by decide) (Or.inl q651) (Or.inl rfl) rfl rfl (fun h => by cases h)
theorem plk_5_8 : (fun e : Nat × Nat × Nat × FieldType × Bool => PG RX5 e.1 e.2.1 e.2.2.1 e.2.2.2.1 e.2.2.2.2) ((26, 6, 1, tyX5 1, true)) := PG.mk' (i := 5) (k := 1) (by decide) (by decide) rfl (by decide) (Or.inl q641) (Or.inl rfl) rfl rfl (fun _ => rfl)
theorem plk_5_ok : ∀ e ∈ plk_5, PG RX5 e.1 e.2.1 e.2.2.1 e.2.2.2.1 e.2.2.2.2 := List.forall_mem_cons.mpr ⟨plk_5_0, List.forall_mem_cons.mpr ⟨plk_5_1, List.forall_mem_cons.mpr ⟨plk_5_2, List.forall_mem_cons.mpr ⟨plk_5_3, List.forall_mem_cons.mpr ⟨plk_5_4, List.forall_mem_cons.mpr ⟨plk_5_5, List.forall_mem_cons.mpr ⟨plk_5_6, List.forall_mem_cons.mpr ⟨plk_5_7, List.forall_mem_cons.mpr ⟨plk_5_8, fun _ h => absurd h List.not_mem_nil⟩⟩⟩⟩⟩⟩⟩⟩⟩
def nlk_5 : List (Nat × Nat) := [(7, 18)]
theorem nlk_5_0 : (fun e : Nat × Nat => NG RX5 e.1 e.2) ((7, 18)) := ⟨by decide, by decide, _, rfl, q602, q603, q119⟩
theorem nlk_5_ok : ∀ e ∈ nlk_5, NG RX5 e.1 e.2 := List.forall_mem_cons.mpr ⟨nlk_5_0, fun _ h => absurd h List.not_mem_nil⟩
def cls_5 : List (Nat × Nat × Nat) := [(76, 1, 14)]
theorem cls_5_0 : (fun e : Nat × Nat × Nat => CS RX5 (.invokestatic e.1) 3 0 e.2.1 (mth e.2.2)) ((76, 1, 14)) := CS.SN mk_X0_viasOf q1792 q1793 (by decide +kernel) (by decide +kernel)
theorem cls_5_ok : ∀ e ∈ cls_5, CS RX5 (.invokestatic e.1) 3 0 e.2.1 (mth e.2.2) := List.forall_mem_cons.mpr ⟨cls_5_0, fun _ h => absurd h List.not_mem_nil⟩
def cli_5 : List (Nat × Nat × Nat) := [(30, 5, 176), (1, 1, 354), (9, 1, 304)]
theorem cli_5_0 : (fun e : Nat × Nat × Nat => ∀ tag, tag ≠ 0 → CS RX5 (.invokespecial e.1) 3 tag e.2.1 (mth e.2.2)) ((30, 5, 176)) := fun tag ht => CS.I mk_X5_init_2 q598 q599 rfl rfl ht (by decide +kernel) (by decide +kernel)
theorem cli_5_1 : (fun e : Nat × Nat × Nat => ∀ tag, tag ≠ 0 → CS RX5 (.invokespecial e.1) 3 tag e.2.1 (mth e.2.2)) ((1, 1, 354)) := fun tag ht => CS.I mk_J45_init q601 q163 rfl rfl ht (by decide +kernel) (by decide +kernel)
theorem cli_5_2 : (fun e : Nat × Nat × Nat => ∀ tag, tag ≠ 0 → CS RX5 (.invokespecial e.1) 3 tag e.2.1 (mth e.2.2)) ((9, 1, 304)) := fun tag ht => CS.I mk_J15_init q604 q605 rfl rfl ht (by decide +kernel) (by decide +kernel)
theorem cli_5_ok : ∀ e ∈ cli_5, ∀ tag, tag ≠ 0 → CS RX5 (.invokespecial e.1) 3 tag e.2.1 (mth e.2.2) := List.forall_mem_cons.mpr ⟨cli_5_0, List.forall_mem_cons.mpr ⟨cli_5_1, List.forall_mem_cons.mpr ⟨cli_5_2, fun _ h => absurd h List.not_mem_nil⟩⟩⟩
def clv_5 : List (Instr × Nat × Nat × Nat × Nat) := [((.invokevirtual 46), 3, 6, 2, 177), ((.invokeinterface 50 1), 5, 12, 1, 210), ((.invokeinterface 50 1), 5, 19, 1, 299), ((.invokeinterface 50 1), 5, 22, 1, 318), ((.invokeinterface 50 1), 5, 26, 1, 343), ((.invokeinterface 56 1), 5, 17, 1, 277), ((.invokeinterface 56 1), 5, 21, 1, 313), ((.invokeinterface 56 1), 5, 23, 1, 320), ((.invokeinterface 62 1), 5, 17, 1, 278), ((.invokeinterface 62 1), 5, 21, 1, 316), ((.invokeinterface 62 1), 5, 23, 1, 323), ((.invokevirtual 68), 3, 19, 2, 300), ((.invokevirtual 72), 3, 19, 1, 301)]
theorem clv_5_0 : (fun e : Instr × Nat × Nat × Nat × Nat => CS RX5 e.1 e.2.1 e.2.2.1 e.2.2.2.1 (mth e.2.2.2.2)) (((.invokevirtual 46), 3, 6, 2, 177)) := CS.V (i := 5) mk_X5_takeWire ⟨by decide, Or.inl rfl, rfl⟩ rfl q683 q684 q685 (by decide +kernel) (by decide +kernel)
theorem clv_5_1 : (fun e : Instr × Nat × Nat × Nat × Nat => CS RX5 e.1 e.2.1 e.2.2.1 e.2.2.2.1 (mth e.2.2.2.2)) (((.invokeinterface 50 1), 5, 12, 1, 210)) := CS.F (i := 11) (x := ⟨"java/util/Collection", "iterator", "()Ljava/util/Iterator;"⟩) mk_J2_iterator ⟨by decide, Or.inl rfl, rfl⟩ (by decide) q688 q443 q724 q690 q689 q726 q725 q723 (by decide +kernel) (by decide +kernel)
theorem clv_5_2 : (fun e : Instr × Nat × Nat × Nat × Nat => CS RX5 e.1 e.2.1 e.2.2.1 e.2.2.2.1 (mth e.2.2.2.2)) (((.invokeinterface 50 1), 5, 19, 1, 299)) := CS.F (i := 18) (x := ⟨"java/util/Collection", "iterator", "()Ljava/util/Iterator;"⟩) mk_J14_iterator ⟨by decide, Or.inl rfl, rfl⟩ (by decide) q688 q792 q790 q690 q689 q793 q791 q789 (by decide +kernel) (by decide +kernel)
theorem clv_5_3 : (fun e : Instr × Nat × Nat × Nat × Nat => CS RX5 e.1 e.2.1 e.2.2.1 e.2.2.2.1 (mth e.2.2.2.2)) (((.invokeinterface 50 1), 5, 22, 1, 318)) := CS.F (i := 21) (x := ⟨"java/util/Collection", "iterator", "()Ljava/util/Iterator;"⟩) mk_J25_iterator ⟨by decide, Or.inl rfl, rfl⟩ (by decide) q688 q761 q759 q690 q689 q762 q760 q758 (by decide +kernel) (by decide +kernel)
theorem clv_5_4 : (fun e : Instr × Nat × Nat × Nat × Nat => CS RX5 e.1 e.2.1 e.2.2.1 e.2.2.2.1 (mth e.2.2.2.2)) (((.invokeinterface 50 1), 5, 26, 1, 343)) := CS.F (i := 25) (x := ⟨"java/util/Collection", "iterator", "()Ljava/util/Iterator;"⟩) mk_J41_iterator ⟨by decide, Or.inl rfl, rfl⟩ (by decide) q688 q864 q862 q690 q689 q865 q863 q861 (by decide +kernel) (by decide +kernel)
theorem clv_5_5 : (fun e : Instr × Nat × Nat × Nat × Nat => CS RX5 e.1 e.2.1 e.2.2.1 e.2.2.2.1 (mth e.2.2.2.2)) (((.invokeinterface 56 1), 5, 17, 1, 277)) := CS.F (i := 16) (x := ⟨"java/util/Iterator", "hasNext", "()Z"⟩) mk_J11_hasNext ⟨by decide, Or.inl rfl, rfl⟩ (by decide) q894 q478 q476 q468 q467 q479 q477 q475 (by decide +kernel) (by decide +kernel)
theorem clv_5_6 : (fun e : Instr × Nat × Nat × Nat × Nat => CS RX5 e.1 e.2.1 e.2.2.1 e.2.2.2.1 (mth e.2.2.2.2)) (((.invokeinterface 56 1), 5, 21, 1, 313)) := CS.F (i := 20) (x := ⟨"java/util/Iterator", "hasNext", "()Z"⟩) mk_J22_hasNext ⟨by decide, Or.inl rfl, rfl⟩ (by decide) q894 q490 q488 q468 q467 q491 q489 q487 (by decide +kernel) (by decide +kernel)
theorem clv_5_7 : (fun e : Instr × Nat × Nat × Nat × Nat => CS RX5 e.1 e.2.1 e.2.2.1 e.2.2.2.1 (mth e.2.2.2.2)) (((.invokeinterface 56 1), 5, 23, 1, 320)) := CS.F (i := 22) (x := ⟨"java/util/Iterator", "hasNext", "()Z"⟩) mk_J27_hasNext ⟨by decide, Or.inl rfl, rfl⟩ (by decide) q894 q506 q504 q468 q467 q507 q505 q503 (by decide +kernel) (by decide +kernel)
theorem clv_5_8 : (fun e : Instr × Nat × Nat × Nat × Nat => CS RX5 e.1 e.2.1 e.2.2.1 e.2.2.2.1 (mth e.2.2.2.2)) (((.invokeinterface 62 1), 5, 17, 1, 278)) := CS.F (i := 16) (x := ⟨"java/util/Iterator", "next", "()Ljava/lang/Object;"⟩) mk_J11_next ⟨by decide, Or.inl rfl, rfl⟩ (by decide) q896 q526 q524 q512 q511 q527 q525 q475 (by decide +kernel) (by decide +kernel)
theorem clv_5_9 : (fun e : Instr × Nat × Nat × Nat × Nat => CS RX5 e.1 e.2.1 e.2.2.1 e.2.2.2.1 (mth e.2.2.2.2)) (((.invokeinterface 62 1), 5, 21, 1, 316)) := CS.F (i := 20) (x := ⟨"java/util/Iterator", "next", "()Ljava/lang/Object;"⟩) mk_J23_next ⟨by decide, Or.inl rfl, rfl⟩ (by decide) q896 q546 q544 q512 q511 q547 q545 q487 (by decide +kernel) (by decide +kernel)
theorem clv_5_10 : (fun e : Instr × Nat × Nat × Nat × Nat => CS RX5 e.1 e.2.1 e.2.2.1 e.2.2.2.1 (mth e.2.2.2.2)) (((.invokeinterface 62 1), 5, 23, 1, 323)) := CS.F (i := 22) (x := ⟨"java/util/Iterator", "next", "()Ljava/lang/Object;"⟩) mk_J28_next ⟨by decide, Or.inl rfl, rfl⟩ (by decide) q896 q581 q579 q512 q511 q582 q580 q503 (by decide +kernel) (by decide +kernel)
theorem clv_5_11 : (fun e : Instr × Nat × Nat × Nat × Nat => CS RX5 e.1 e.2.1 e.2.2.1 e.2.2.2.1 (mth e.2.2.2.2)) (((.invokevirtual 68), 3, 19, 2, 300)) := CS.U (i := 18) (owner := "java/util/HashSet") (x := ⟨"java/util/LinkedHashSet", "add", "(Ljava/lang/Object;)Z"⟩) mk_J14_add ⟨by decide, Or.inl rfl, rfl⟩ rfl q898 q899 q902 q901 (by decide +kernel) (by decide +kernel)
theorem clv_5_12 : (fun e : Instr × Nat × Nat × Nat × Nat => CS RX5 e.1 e.2.1 e.2.2.1 e.2.2.2.1 (mth e.2.2.2.2)) (((.invokevirtual 72), 3, 19, 1, 301)) := CS.U (i := 18) (owner := "java/util/HashSet") (x := ⟨"java/util/LinkedHashSet", "size", "()I"⟩) mk_J14_size ⟨by decide, Or.inl rfl, rfl⟩ rfl q1777 q1778 q1781 q1780 (by decide +kernel) (by decide +kernel)
theorem clv_5_ok : ∀ e ∈ clv_5, CS RX5 e.1 e.2.1 e.2.2.1 e.2.2.2.1 (mth e.2.2.2.2) := List.forall_mem_cons.mpr ⟨clv_5_0, List.forall_mem_cons.mpr ⟨clv_5_1, List.forall_mem_cons.mpr ⟨clv_5_2, List.forall_mem_cons.mpr ⟨clv_5_3, List.forall_mem_cons.mpr ⟨clv_5_4, List.forall_mem_cons.mpr ⟨clv_5_5, List.forall_mem_cons.mpr ⟨clv_5_6, List.forall_mem_cons.mpr ⟨clv_5_7, List.forall_mem_cons.mpr ⟨clv_5_8, List.forall_mem_cons.mpr ⟨clv_5_9, List.forall_mem_cons.mpr ⟨clv_5_10, List.forall_mem_cons.mpr ⟨clv_5_11, List.forall_mem_cons.mpr ⟨clv_5_12, fun _ h => absurd h List.not_mem_nil⟩⟩⟩⟩⟩⟩⟩⟩⟩⟩⟩⟩⟩
def klk_5 : List (Nat × Nat) := [(66, 8)]
theorem klk_5_0 : (fun e : Nat × Nat => CG RX5 e.1 e.2) ((66, 8)) := ⟨7, (RX7, TX7, 1), _, by decide, Or.inl rfl, rfl, q897, Or.inl ⟨rfl, by decide⟩⟩
theorem klk_5_ok : ∀ e ∈ klk_5, CG RX5 e.1 e.2 := List.forall_mem_cons.mpr ⟨klk_5_0, fun _ h => absurd h List.not_mem_nil⟩
def ilk_5 : List (Nat × Nat) := []
theorem ilk_5_ok : ∀ e ∈ ilk_5, CG RX5 e.1 e.2 := fun _ h => absurd h List.not_mem_nil
def slk_5 : List (Nat × Nat) := []
theorem slk_5_ok : ∀ e ∈ slk_5, GS RX5 e.1 e.2 := fun _ h => absurd h List.not_mem_nil
def alk_5 : List (Nat × Nat) := []
theorem alk_5_ok : ∀ e ∈ alk_5, AG RX5 e.1 e.2 := fun _ h => absurd h List.not_mem_nil
def dlk_5 : List (Nat × Int) := []
theorem dlk_5_ok : ∀ e ∈ dlk_5, Cond.constant RX5 e.1 (iI e.2) ∈ lw_all := fun _ h => absurd h List.not_mem_nil
def d2k_5 : List (Nat × Int) := []
theorem d2k_5_ok : ∀ e ∈ d2k_5, Cond.constantLong RX5 e.1 (lI e.2) ∈ lw_all := fun _ h => absurd h List.not_mem_nil
def fck_5 : List (Nat × UInt32) := []
theorem fck_5_ok : ∀ e ∈ fck_5, Cond.constantFloat RX5 e.1 e.2 ∈ lw_all := fun _ h => absurd h List.not_mem_nil
def flk_6 : List (Nat × Nat × Nat) := [(18, 7, 0), (22, 7, 1), (25, 7, 2), (28, 7, 3), (31, 7, 5), (12, 7, 4), (59, 7, 6)]
theorem flk_6_0 : (fun e : Nat × Nat × Nat => FG RX6 e.1 e.2.1 e.2.2) ((18, 7, 0)) := FG.mk' (i := 6) (k := 0) (by decide) (by decide) rfl (by decide) (Or.inl q1567) (Or.inl rfl) (Or.inl rfl)
theorem flk_6_1 : (fun e : Nat × Nat × Nat => FG RX6 e.1 e.2.1 e.2.2) ((22, 7, 1)) := FG.mk' (i := 6) (k := 1) (by decide) (by decide) rfl (by decide) (Or.inl q1570) (Or.inl rfl) (Or.inl rfl)
theorem flk_6_2 : (fun e : Nat × Nat × Nat => FG RX6 e.1 e.2.1 e.2.2) ((25, 7, 2)) := FG.mk' (i := 6) (k := 2) (by decide) (by decide) rfl (by decide) (Or.inl q1573) (Or.inl rfl) (Or.inl rfl)
theorem flk_6_3 : (fun e : Nat × Nat × Nat => FG RX6 e.1 e.2.1 e.2.2) ((28, 7, 3)) := FG.mk' (i := 6) (k := 3) (by decide) (by decide) rfl (by decide) (Or.inl q1576) (Or.inl rfl) (Or.inl rfl)
theorem flk_6_4 : (fun e : Nat × Nat × Nat => FG RX6 e.1 e.2.1 e.2.2) ((31, 7, 5)) := FG.mk' (i := 6) (k := 5) (by decide) (by decide) rfl (by decide) (Or.inl q1582) (Or.inl rfl) (Or.inl rfl)
theorem flk_6_5 : (fun e : Nat × Nat × Nat => FG RX6 e.1 e.2.1 e.2.2) ((12, 7, 4)) := FG.mk' (i := 6) (k := 4) (by decide) (by decide) rfl (by decide) (Or.inl q1579) (Or.inl rfl) (Or.inl rfl)
theorem flk_6_6 : (fun e : Nat × Nat × Nat => FG RX6 e.1 e.2.1 e.2.2) ((59, 7, 6)) := FG.mk' (i := 6) (k := 6) (by decide) (by decide) rfl (by decide) (Or.inl q1585) (Or.inl rfl) (Or.inl rfl)
theorem flk_6_ok : ∀ e ∈ flk_6, FG RX6 e.1 e.2.1 e.2.2 := List.forall_mem_cons.mpr ⟨flk_6_0, List.forall_mem_cons.mpr ⟨flk_6_1, List.forall_mem_cons.mpr ⟨flk_6_2, List.forall_mem_cons.mpr ⟨flk_6_3, List.forall_mem_cons.mpr ⟨flk_6_4, List.forall_mem_cons.mpr ⟨flk_6_5, List.forall_mem_cons.mpr ⟨flk_6_6, fun _ h => absurd h List.not_mem_nil⟩⟩⟩⟩⟩⟩⟩
def plk_6 : List (Nat × Nat × Nat × FieldType × Bool) := [(59, 7, 6, tyX6 6, false), (12, 7, 4, tyX6 4, true), (18, 7, 0, tyX6 0, true), (22, 7, 1, tyX6 1, true), (25, 7, 2, tyX6 2, true), (28, 7, 3, tyX6 3, true), (31, 7, 5, tyX6 5, false)]
theorem plk_6_0 : (fun e : Nat × Nat × Nat × FieldType × Bool => PG RX6 e.1 e.2.1 e.2.2.1 e.2.2.2.1 e.2.2.2.2) ((59, 7, 6, tyX6 6, false)) := PG.mk' (i := 6) (k := 6) (by decide) (by decide) rfl (by decide) (Or.inl q1585) (Or.inl rfl) rfl rfl (fun h => by cases h)
theorem plk_6_1 : (fun e : Nat × Nat × Nat × FieldType × Bool => PG RX6 e.1 e.2.1 e.2.2.1 e.2.2.2.1 e.2.2.2.2) ((12, 7, 4, tyX6 4, true)) := PG.mk' (i := 6) (k := 4) (by decide) (by decide) rfl (by decide) (Or.inl q1579) (Or.inl rfl) rfl rfl (fun _ => rfl)
theorem plk_6_2 : (fun e : Nat × Nat × Nat × FieldType × Bool => PG RX6 e.1 e.2.1 e.2.2.1 e.2.2.2.1 e.2.2.2.2) ((18, 7, 0, tyX6 0, true)) := PG.mk' (i := 6) (k := 0) (by decide) (by decide) rfl (by decide) (Or.inl q1567) (Or.inl rfl) rfl rfl (fun _ => rfl)
theorem plk_6_3 : (fun e : Nat × Nat × Nat × FieldType × Bool => PG RX6 e.1 e.2.1 e.2.2.1 e.2.2.2.1 e.2.2.2.2) ((22, 7, 1, tyX6 1, true)) := PG.mk' (i := 6) (k := 1) (by decide) (by decide) rfl (by decide) (Or.inl q1570) (Or.inl rfl) rfl rfl (fun _ => rfl)
theorem plk_6_4 : (fun e : Nat × Nat × Nat × FieldType × Bool => PG RX6 e.1 e.2.1 e.2.2.1 e.2.2.2.1 e.2.2.2.2) ((25, 7, 2, tyX6 2, true)) := PG.mk' (i := 6) (k := 2) (by decide) (by decide) rfl (by decide) (Or.inl q1573) (Or.inl rfl) rfl rfl (fun _ => rfl)
theorem plk_6_5 : (fun e : Nat × Nat × Nat × FieldType × Bool => PG RX6 e.1 e.2.1 e.2.2.1 e.2.2.2.1 e.2.2.2.2) ((28, 7, 3, tyX6 3, true)) := PG.mk' (i := 6) (k := 3) (by decide) (by decide) rfl (by decide) (Or.inl q1576) (Or.inl rfl) rfl rfl (fun _ => rfl)
theorem plk_6_6 : (fun e : Nat × Nat × Nat × FieldType × Bool => PG RX6 e.1 e.2.1 e.2.2.1 e.2.2.2.1 e.2.2.2.2) ((31, 7, 5, tyX6 5, false)) := PG.mk' (i := 6) (k := 5) (by decide) (by decide) rfl (by decide) (Or.inl q1582) (Or.inl rfl) rfl rfl (fun h => by cases h)
theorem plk_6_ok : ∀ e ∈ plk_6, PG RX6 e.1 e.2.1 e.2.2.1 e.2.2.2.1 e.2.2.2.2 := List.forall_mem_cons.mpr ⟨plk_6_0, List.forall_mem_cons.mpr ⟨plk_6_1, List.forall_mem_cons.mpr ⟨plk_6_2, List.forall_mem_cons.mpr ⟨plk_6_3, List.forall_mem_cons.mpr ⟨plk_6_4, List.forall_mem_cons.mpr ⟨plk_6_5, List.forall_mem_cons.mpr ⟨plk_6_6, fun _ h => absurd h List.not_mem_nil⟩⟩⟩⟩⟩⟩⟩
def nlk_6 : List (Nat × Nat) := [(9, 18)]
theorem nlk_6_0 : (fun e : Nat × Nat => NG RX6 e.1 e.2) ((9, 18)) := ⟨by decide, by decide, _, rfl, q1557, q603, q119⟩
theorem nlk_6_ok : ∀ e ∈ nlk_6, NG RX6 e.1 e.2 := List.forall_mem_cons.mpr ⟨nlk_6_0, fun _ h => absurd h List.not_mem_nil⟩
def cls_6 : List (Nat × Nat × Nat) := [(69, 1, 14)]
theorem cls_6_0 : (fun e : Nat × Nat × Nat => CS RX6 (.invokestatic e.1) 3 0 e.2.1 (mth e.2.2)) ((69, 1, 14)) := CS.SN mk_X0_viasOf q1987 q1793 (by decide +kernel) (by decide +kernel)
theorem cls_6_ok : ∀ e ∈ cls_6, CS RX6 (.invokestatic e.1) 3 0 e.2.1 (mth e.2.2) := List.forall_mem_cons.mpr ⟨cls_6_0, fun _ h => absurd h List.not_mem_nil⟩
def cli_6 : List (Nat × Nat × Nat) := [(56, 7, 183), (3, 1, 354), (11, 1, 304)]
theorem cli_6_0 : (fun e : Nat × Nat × Nat => ∀ tag, tag ≠ 0 → CS RX6 (.invokespecial e.1) 3 tag e.2.1 (mth e.2.2)) ((56, 7, 183)) := fun tag ht => CS.I mk_X6_init_2 q1553 q1554 rfl rfl ht (by decide +kernel) (by decide +kernel)
theorem cli_6_1 : (fun e : Nat × Nat × Nat => ∀ tag, tag ≠ 0 → CS RX6 (.invokespecial e.1) 3 tag e.2.1 (mth e.2.2)) ((3, 1, 354)) := fun tag ht => CS.I mk_J45_init q1556 q163 rfl rfl ht (by decide +kernel) (by decide +kernel)
theorem cli_6_2 : (fun e : Nat × Nat × Nat => ∀ tag, tag ≠ 0 → CS RX6 (.invokespecial e.1) 3 tag e.2.1 (mth e.2.2)) ((11, 1, 304)) := fun tag ht => CS.I mk_J15_init q1558 q605 rfl rfl ht (by decide +kernel) (by decide +kernel)
theorem cli_6_ok : ∀ e ∈ cli_6, ∀ tag, tag ≠ 0 → CS RX6 (.invokespecial e.1) 3 tag e.2.1 (mth e.2.2) := List.forall_mem_cons.mpr ⟨cli_6_0, List.forall_mem_cons.mpr ⟨cli_6_1, List.forall_mem_cons.mpr ⟨cli_6_2, fun _ h => absurd h List.not_mem_nil⟩⟩⟩
def clv_6 : List (Instr × Nat × Nat × Nat × Nat) := [((.invokeinterface 34 1), 5, 12, 1, 210), ((.invokeinterface 34 1), 5, 19, 1, 299), ((.invokeinterface 34 1), 5, 22, 1, 318), ((.invokeinterface 34 1), 5, 26, 1, 343), ((.invokeinterface 40 1), 5, 17, 1, 277), ((.invokeinterface 40 1), 5, 21, 1, 313), ((.invokeinterface 40 1), 5, 23, 1, 320), ((.invokeinterface 46 1), 5, 17, 1, 278), ((.invokeinterface 46 1), 5, 21, 1, 316), ((.invokeinterface 46 1), 5, 23, 1, 323), ((.invokevirtual 52), 3, 19, 2, 300), ((.invokevirtual 66), 3, 7, 1, 185), ((.invokevirtual 62), 3, 19, 1, 301)]
theorem clv_6_0 : (fun e : Instr × Nat × Nat × Nat × Nat => CS RX6 e.1 e.2.1 e.2.2.1 e.2.2.2.1 (mth e.2.2.2.2)) (((.invokeinterface 34 1), 5, 12, 1, 210)) := CS.F (i := 11) (x := ⟨"java/util/Collection", "iterator", "()Ljava/util/Iterator;"⟩) mk_J2_iterator ⟨by decide, Or.inl rfl, rfl⟩ (by decide) q1560 q443 q724 q690 q689 q726 q725 q723 (by decide +kernel) (by decide +kernel)
theorem clv_6_1 : (fun e : Instr × Nat × Nat × Nat × Nat => CS RX6 e.1 e.2.1 e.2.2.1 e.2.2.2.1 (mth e.2.2.2.2)) (((.invokeinterface 34 1), 5, 19, 1, 299)) := CS.F (i := 18) (x := ⟨"java/util/Collection", "iterator", "()Ljava/util/Iterator;"⟩) mk_J14_iterator ⟨by decide, Or.inl rfl, rfl⟩ (by decide) q1560 q792 q790 q690 q689 q793 q791 q789 (by decide +kernel) (by decide +kernel)
theorem clv_6_2 : (fun e : Instr × Nat × Nat × Nat × Nat => CS RX6 e.1 e.2.1 e.2.2.1 e.2.2.2.1 (mth e.2.2.2.2)) (((.invokeinterface 34 1), 5, 22, 1, 318)) := CS.F (i := 21) (x := ⟨"java/util/Collection", "iterator", "()Ljava/util/Iterator;"⟩) mk_J25_iterator ⟨by decide, Or.inl rfl, rfl⟩ (by decide) q1560 q761 q759 q690 q689 q762 q760 q758 (by decide +kernel) (by decide +kernel)
theorem clv_6_3 : (fun e : Instr × Nat × Nat × Nat × Nat => CS RX6 e.1 e.2.1 e.2.2.1 e.2.2.2.1 (mth e.2.2.2.2)) (((.invokeinterface 34 1), 5, 26, 1, 343)) := CS.F (i := 25) (x := ⟨"java/util/Collection", "iterator", "()Ljava/util/Iterator;"⟩) mk_J41_iterator ⟨by decide, Or.inl rfl, rfl⟩ (by decide) q1560 q864 q862 q690 q689 q865 q863 q861 (by decide +kernel) (by decide +kernel)
theorem clv_6_4 : (fun e : Instr × Nat × Nat × Nat × Nat => CS RX6 e.1 e.2.1 e.2.2.1 e.2.2.2.1 (mth e.2.2.2.2)) (((.invokeinterface 40 1), 5, 17, 1, 277)) := CS.F (i := 16) (x := ⟨"java/util/Iterator", "hasNext", "()Z"⟩) mk_J11_hasNext ⟨by decide, Or.inl rfl, rfl⟩ (by decide) q1562 q478 q476 q468 q467 q479 q477 q475 (by decide +kernel) (by decide +kernel)
theorem clv_6_5 : (fun e : Instr × Nat × Nat × Nat × Nat => CS RX6 e.1 e.2.1 e.2.2.1 e.2.2.2.1 (mth e.2.2.2.2)) (((.invokeinterface 40 1), 5, 21, 1, 313)) := CS.F (i := 20) (x := ⟨"java/util/Iterator", "hasNext", "()Z"⟩) mk_J22_hasNext ⟨by decide, Or.inl rfl, rfl⟩ (by decide) q1562 q490 q488 q468 q467 q491 q489 q487 (by decide +kernel) (by decide +kernel)
theorem clv_6_6 : (fun e : Instr × Nat × Nat × Nat × Nat => CS RX6 e.1 e.2.1 e.2.2.1 e.2.2.2.1 (mth e.2.2.2.2)) (((.invokeinterface 40 1), 5, 23, 1, 320)) := CS.F (i := 22) (x := ⟨"java/util/Iterator", "hasNext", "()Z"⟩) mk_J27_hasNext ⟨by decide, Or.inl rfl, rfl⟩ (by decide) q1562 q506 q504 q468 q467 q507 q505 q503 (by decide +kernel) (by decide +kernel)
theorem clv_6_7 : (fun e : Instr × Nat × Nat × Nat × Nat => CS RX6 e.1 e.2.1 e.2.2.1 e.2.2.2.1 (mth e.2.2.2.2)) (((.invokeinterface 46 1), 5, 17, 1, 278)) := CS.F (i := 16) (x := ⟨"java/util/Iterator", "next", "()Ljava/lang/Object;"⟩) mk_J11_next ⟨by decide, Or.inl rfl, rfl⟩ (by decide) q1564 q526 q524 q512 q511 q527 q525 q475 (by decide +kernel) (by decide +kernel)
theorem clv_6_8 : (fun e : Instr × Nat × Nat × Nat × Nat => CS RX6 e.1 e.2.1 e.2.2.1 e.2.2.2.1 (mth e.2.2.2.2)) (((.invokeinterface 46 1), 5, 21, 1, 316)) := CS.F (i := 20) (x := ⟨"java/util/Iterator", "next", "()Ljava/lang/Object;"⟩) mk_J23_next ⟨by decide, Or.inl rfl, rfl⟩ (by decide) q1564 q546 q544 q512 q511 q547 q545 q487 (by decide +kernel) (by decide +kernel)
theorem clv_6_9 : (fun e : Instr × Nat × Nat × Nat × Nat => CS RX6 e.1 e.2.1 e.2.2.1 e.2.2.2.1 (mth e.2.2.2.2)) (((.invokeinterface 46 1), 5, 23, 1, 323)) := CS.F (i := 22) (x := ⟨"java/util/Iterator", "next", "()Ljava/lang/Object;"⟩) mk_J28_next ⟨by decide, Or.inl rfl, rfl⟩ (by decide) q1564 q581 q579 q512 q511 q582 q580 q503 (by decide +kernel) (by decide +kernel)
theorem clv_6_10 : (fun e : Instr × Nat × Nat × Nat × Nat => CS RX6 e.1 e.2.1 e.2.2.1 e.2.2.2.1 (mth e.2.2.2.2)) (((.invokevirtual 52), 3, 19, 2, 300)) := CS.U (i := 18) (owner := "java/util/HashSet") (x := ⟨"java/util/LinkedHashSet", "add", "(Ljava/lang/Object;)Z"⟩) mk_J14_add ⟨by decide, Or.inl rfl, rfl⟩ rfl q1566 q899 q902 q901 (by decide +kernel) (by decide +kernel)
theorem clv_6_11 : (fun e : Instr × Nat × Nat × Nat × Nat => CS RX6 e.1 e.2.1 e.2.2.1 e.2.2.2.1 (mth e.2.2.2.2)) (((.invokevirtual 66), 3, 7, 1, 185)) := CS.V (i := 6) mk_X6_many ⟨by decide, Or.inl rfl, rfl⟩ rfl q1982 q1983 q1984 (by decide +kernel) (by decide +kernel)
theorem clv_6_12 : (fun e : Instr × Nat × Nat × Nat × Nat => CS RX6 e.1 e.2.1 e.2.2.1 e.2.2.2.1 (mth e.2.2.2.2)) (((.invokevirtual 62), 3, 19, 1, 301)) := CS.U (i := 18) (owner := "java/util/HashSet") (x := ⟨"java/util/LinkedHashSet", "size", "()I"⟩) mk_J14_size ⟨by decide, Or.inl rfl, rfl⟩ rfl q1986 q1778 q1781 q1780 (by decide +kernel) (by decide +kernel)
theorem clv_6_ok : ∀ e ∈ clv_6, CS RX6 e.1 e.2.1 e.2.2.1 e.2.2.2.1 (mth e.2.2.2.2) := List.forall_mem_cons.mpr ⟨clv_6_0, List.forall_mem_cons.mpr ⟨clv_6_1, List.forall_mem_cons.mpr ⟨clv_6_2, List.forall_mem_cons.mpr ⟨clv_6_3, List.forall_mem_cons.mpr ⟨clv_6_4, List.forall_mem_cons.mpr ⟨clv_6_5, List.forall_mem_cons.mpr ⟨clv_6_6, List.forall_mem_cons.mpr ⟨clv_6_7, List.forall_mem_cons.mpr ⟨clv_6_8, List.forall_mem_cons.mpr ⟨clv_6_9, List.forall_mem_cons.mpr ⟨clv_6_10, List.forall_mem_cons.mpr ⟨clv_6_11, List.forall_mem_cons.mpr ⟨clv_6_12, fun _ h => absurd h List.not_mem_nil⟩⟩⟩⟩⟩⟩⟩⟩⟩⟩⟩⟩⟩
def klk_6 : List (Nat × Nat) := [(50, 8)]
theorem klk_6_0 : (fun e : Nat × Nat => CG RX6 e.1 e.2) ((50, 8)) := ⟨7, (RX7, TX7, 1), _, by decide, Or.inl rfl, rfl, q1565, Or.inl ⟨rfl, by decide⟩⟩
theorem klk_6_ok : ∀ e ∈ klk_6, CG RX6 e.1 e.2 := List.forall_mem_cons.mpr ⟨klk_6_0, fun _ h => absurd h List.not_mem_nil⟩
def ilk_6 : List (Nat × Nat) := []
theorem ilk_6_ok : ∀ e ∈ ilk_6, CG RX6 e.1 e.2 := fun _ h => absurd h List.not_mem_nil
def slk_6 : List (Nat × Nat) := []
theorem slk_6_ok : ∀ e ∈ slk_6, GS RX6 e.1 e.2 := fun _ h => absurd h List.not_mem_nil
def alk_6 : List (Nat × Nat) := []
theorem alk_6_ok : ∀ e ∈ alk_6, AG RX6 e.1 e.2 := fun _ h => absurd h List.not_mem_nil
def dlk_6 : List (Nat × Int) := []
theorem dlk_6_ok : ∀ e ∈ dlk_6, Cond.constant RX6 e.1 (iI e.2) ∈ lw_all := fun _ h => absurd h List.not_mem_nil
def d2k_6 : List (Nat × Int) := []
theorem d2k_6_ok : ∀ e ∈ d2k_6, Cond.constantLong RX6 e.1 (lI e.2) ∈ lw_all := fun _ h => absurd h List.not_mem_nil
def fck_6 : List (Nat × UInt32) := []
theorem fck_6_ok : ∀ e ∈ fck_6, Cond.constantFloat RX6 e.1 e.2 ∈ lw_all := fun _ h => absurd h List.not_mem_nil
def flk_7 : List (Nat × Nat × Nat) := [(9, 8, 0)]
theorem flk_7_0 : (fun e : Nat × Nat × Nat => FG RX7 e.1 e.2.1 e.2.2) ((9, 8, 0)) := FG.mk' (i := 7) (k := 0) (by decide) (by decide) rfl (by decide) (Or.inl q1667) (Or.inl rfl) (Or.inl rfl)
theorem flk_7_ok : ∀ e ∈ flk_7, FG RX7 e.1 e.2.1 e.2.2 := List.forall_mem_cons.mpr ⟨flk_7_0, fun _ h => absurd h List.not_mem_nil⟩
def plk_7 : List (Nat × Nat × Nat × FieldType × Bool) := [(9, 8, 0, tyX7 0, true)]
theorem plk_7_0 : (fun e : Nat × Nat × Nat × FieldType × Bool => PG RX7 e.1 e.2.1 e.2.2.1 e.2.2.2.1 e.2.2.2.2) ((9, 8, 0, tyX7 0, true)) := PG.mk' (i := 7) (k := 0) (by decide) (by decide) rfl (by decide) (Or.inl q1667) (Or.inl rfl) rfl rfl (fun _ => rfl)
theorem plk_7_ok : ∀ e ∈ plk_7, PG RX7 e.1 e.2.1 e.2.2.1 e.2.2.2.1 e.2.2.2.2 := List.forall_mem_cons.mpr ⟨plk_7_0, fun _ h => absurd h List.not_mem_nil⟩
def nlk_7 : List (Nat × Nat) := [(10, 7)]
theorem nlk_7_0 : (fun e : Nat × Nat => NG RX7 e.1 e.2) ((10, 7)) := ⟨by decide, by decide, _, rfl, q1152, q1662, q146⟩
theorem nlk_7_ok : ∀ e ∈ nlk_7, NG RX7 e.1 e.2 := List.forall_mem_cons.mpr ⟨nlk_7_0, fun _ h => absurd h List.not_mem_nil⟩
def cls_7 : List (Nat × Nat × Nat) := [(15, 2, 308), (21, 1, 8)]
theorem cls_7_0 : (fun e : Nat × Nat × Nat => CS RX7 (.invokestatic e.1) 3 0 e.2.1 (mth e.2.2)) ((15, 2, 308)) := CS.S mk_J18_compare q1157 q1158 (by decide +kernel) (by decide +kernel)
theorem cls_7_1 : (fun e : Nat × Nat × Nat => CS RX7 (.invokestatic e.1) 3 0 e.2.1 (mth e.2.2)) ((21, 1, 8)) := CS.SN mk_X0_over q1700 q1701 (by decide +kernel) (by decide +kernel)
theorem cls_7_ok : ∀ e ∈ cls_7, CS RX7 (.invokestatic e.1) 3 0 e.2.1 (mth e.2.2) := List.forall_mem_cons.mpr ⟨cls_7_0, List.forall_mem_cons.mpr ⟨cls_7_1, fun _ h => absurd h List.not_mem_nil⟩⟩
def cli_7 : List (Nat × Nat × Nat) := [(3, 1, 354), (25, 2, 190)]
theorem cli_7_0 : (fun e : Nat × Nat × Nat => ∀ tag, tag ≠ 0 → CS RX7 (.invokespecial e.1) 3 tag e.2.1 (mth e.2.2)) ((3, 1, 354)) := fun tag ht => CS.I mk_J45_init q1666 q163 rfl rfl ht (by decide +kernel) (by decide +kernel)
theorem cli_7_1 : (fun e : Nat × Nat × Nat => ∀ tag, tag ≠ 0 → CS RX7 (.invokespecial e.1) 3 tag e.2.1 (mth e.2.2)) ((25, 2, 190)) := fun tag ht => CS.I mk_X7_init q1703 q1664 rfl rfl ht (by decide +kernel) (by decide +kernel)
theorem cli_7_ok : ∀ e ∈ cli_7, ∀ tag, tag ≠ 0 → CS RX7 (.invokespecial e.1) 3 tag e.2.1 (mth e.2.2) := List.forall_mem_cons.mpr ⟨cli_7_0, List.forall_mem_cons.mpr ⟨cli_7_1, fun _ h => absurd h List.not_mem_nil⟩⟩
def clv_7 : List (Instr × Nat × Nat × Nat × Nat) := [((.invokevirtual 28), 3, 8, 2, 188)]
theorem clv_7_0 : (fun e : Instr × Nat × Nat × Nat × Nat => CS RX7 e.1 e.2.1 e.2.2.1 e.2.2.2.1 (mth e.2.2.2.2)) (((.invokevirtual 28), 3, 8, 2, 188)) := CS.V (i := 7) mk_X7_compareTo_2 ⟨by decide, Or.inl rfl, rfl⟩ rfl q1153 q1154 q1155 (by decide +kernel) (by decide +kernel)
theorem clv_7_ok : ∀ e ∈ clv_7, CS RX7 e.1 e.2.1 e.2.2.1 e.2.2.2.1 (mth e.2.2.2.2) := List.forall_mem_cons.mpr ⟨clv_7_0, fun _ h => absurd h List.not_mem_nil⟩
def klk_7 : List (Nat × Nat) := [(10, 8)]
theorem klk_7_0 : (fun e : Nat × Nat => CG RX7 e.1 e.2) ((10, 8)) := ⟨7, (RX7, TX7, 1), _, by decide, Or.inl rfl, rfl, q1152, Or.inl ⟨rfl, by decide⟩⟩
theorem klk_7_ok : ∀ e ∈ klk_7, CG RX7 e.1 e.2 := List.forall_mem_cons.mpr ⟨klk_7_0, fun _ h => absurd h List.not_mem_nil⟩
def ilk_7 : List (Nat × Nat) := [(10, 8)]
theorem ilk_7_0 : (fun e : Nat × Nat => CG RX7 e.1 e.2) ((10, 8)) := ⟨7, (RX7, TX7, 1), _, by decide, Or.inl rfl, rfl, q1152, Or.inl ⟨rfl, by decide⟩⟩
theorem ilk_7_ok : ∀ e ∈ ilk_7, CG RX7 e.1 e.2 := List.forall_mem_cons.mpr ⟨ilk_7_0, fun _ h => absurd h List.not_mem_nil⟩
def slk_7 : List (Nat × Nat) := []
theorem slk_7_ok : ∀ e ∈ slk_7, GS RX7 e.1 e.2 := fun _ h => absurd h List.not_mem_nil
def alk_7 : List (Nat × Nat) := []
theorem alk_7_ok : ∀ e ∈ alk_7, AG RX7 e.1 e.2 := fun _ h => absurd h List.not_mem_nil
def dlk_7 : List (Nat × Int) := []
theorem dlk_7_ok : ∀ e ∈ dlk_7, Cond.constant RX7 e.1 (iI e.2) ∈ lw_all := fun _ h => absurd h List.not_mem_nil
def d2k_7 : List (Nat × Int) := []
theorem d2k_7_ok : ∀ e ∈ d2k_7, Cond.constantLong RX7 e.1 (lI e.2) ∈ lw_all := fun _ h => absurd h List.not_mem_nil
def fck_7 : List (Nat × UInt32) := []
theorem fck_7_ok : ∀ e ∈ fck_7, Cond.constantFloat RX7 e.1 e.2 ∈ lw_all := fun _ h => absurd h List.not_mem_nil
def flk_8 : List (Nat × Nat × Nat) := [(12, 9, 0)]
theorem flk_8_0 : (fun e : Nat × Nat × Nat => FG RX8 e.1 e.2.1 e.2.2) ((12, 9, 0)) := FG.mk' (i := 8) (k := 0) (by decide) (by decide) rfl (by decide) (Or.inl q2295) (Or.inl rfl) (Or.inl rfl)
theorem flk_8_ok : ∀ e ∈ flk_8, FG RX8 e.1 e.2.1 e.2.2 := List.forall_mem_cons.mpr ⟨flk_8_0, fun _ h => absurd h List.not_mem_nil⟩
def plk_8 : List (Nat × Nat × Nat × FieldType × Bool) := [(12, 9, 0, tyX8 0, true)]
theorem plk_8_0 : (fun e : Nat × Nat × Nat × FieldType × Bool => PG RX8 e.1 e.2.1 e.2.2.1 e.2.2.2.1 e.2.2.2.2) ((12, 9, 0, tyX8 0, true)) := PG.mk' (i := 8) (k := 0) (by decide) (by decide) rfl (by decide) (Or.inl q2295) (Or.inl rfl) rfl rfl (fun _ => rfl)
theorem plk_8_ok : ∀ e ∈ plk_8, PG RX8 e.1 e.2.1 e.2.2.1 e.2.2.2.1 e.2.2.2.2 := List.forall_mem_cons.mpr ⟨plk_8_0, fun _ h => absurd h List.not_mem_nil⟩
def nlk_8 : List (Nat × Nat) := [(7, 26)]
theorem nlk_8_0 : (fun e : Nat × Nat => NG RX8 e.1 e.2) ((7, 26)) := ⟨by decide, by decide, _, rfl, q2270, q1851, q154⟩
theorem nlk_8_ok : ∀ e ∈ nlk_8, NG RX8 e.1 e.2 := List.forall_mem_cons.mpr ⟨nlk_8_0, fun _ h => absurd h List.not_mem_nil⟩
def cls_8 : List (Nat × Nat × Nat) := []
theorem cls_8_ok : ∀ e ∈ cls_8, CS RX8 (.invokestatic e.1) 3 0 e.2.1 (mth e.2.2) := fun _ h => absurd h List.not_mem_nil
def cli_8 : List (Nat × Nat × Nat) := [(1, 1, 354), (9, 3, 346)]
theorem cli_8_0 : (fun e : Nat × Nat × Nat => ∀ tag, tag ≠ 0 → CS RX8 (.invokespecial e.1) 3 tag e.2.1 (mth e.2.2)) ((1, 1, 354)) := fun tag ht => CS.I mk_J45_init q2269 q163 rfl rfl ht (by decide +kernel) (by decide +kernel)
theorem cli_8_1 : (fun e : Nat × Nat × Nat => ∀ tag, tag ≠ 0 → CS RX8 (.invokespecial e.1) 3 tag e.2.1 (mth e.2.2)) ((9, 3, 346)) := fun tag ht => CS.I mk_J43_init q2271 q2272 rfl rfl ht (by decide +kernel) (by decide +kernel)
theorem cli_8_ok : ∀ e ∈ cli_8, ∀ tag, tag ≠ 0 → CS RX8 (.invokespecial e.1) 3 tag e.2.1 (mth e.2.2) := List.forall_mem_cons.mpr ⟨cli_8_0, List.forall_mem_cons.mpr ⟨cli_8_1, fun _ h => absurd h List.not_mem_nil⟩⟩
def clv_8 : List (Instr × Nat × Nat × Nat × Nat) := [((.invokevirtual 18), 3, 27, 2, 347), ((.invokevirtual 22), 3, 27, 1, 352)]
theorem clv_8_0 : (fun e : Instr × Nat × Nat × Nat × Nat => CS RX8 e.1 e.2.1 e.2.2.1 e.2.2.2.1 (mth e.2.2.2.2)) (((.invokevirtual 18), 3, 27, 2, 347)) := CS.V (i := 26) mk_J43_add ⟨by decide, Or.inl rfl, rfl⟩ rfl q2303 q2304 q2305 (by decide +kernel) (by decide +kernel)
theorem clv_8_1 : (fun e : Instr × Nat × Nat × Nat × Nat => CS RX8 e.1 e.2.1 e.2.2.1 e.2.2.2.1 (mth e.2.2.2.2)) (((.invokevirtual 22), 3, 27, 1, 352)) := CS.V (i := 26) mk_J43_poll ⟨by decide, Or.inl rfl, rfl⟩ rfl q2336 q2337 q2338 (by decide +kernel) (by decide +kernel)
theorem clv_8_ok : ∀ e ∈ clv_8, CS RX8 e.1 e.2.1 e.2.2.1 e.2.2.2.1 (mth e.2.2.2.2) := List.forall_mem_cons.mpr ⟨clv_8_0, List.forall_mem_cons.mpr ⟨clv_8_1, fun _ h => absurd h List.not_mem_nil⟩⟩
def klk_8 : List (Nat × Nat) := []
theorem klk_8_ok : ∀ e ∈ klk_8, CG RX8 e.1 e.2 := fun _ h => absurd h List.not_mem_nil
def ilk_8 : List (Nat × Nat) := []
theorem ilk_8_ok : ∀ e ∈ ilk_8, CG RX8 e.1 e.2 := fun _ h => absurd h List.not_mem_nil
def slk_8 : List (Nat × Nat) := []
theorem slk_8_ok : ∀ e ∈ slk_8, GS RX8 e.1 e.2 := fun _ h => absurd h List.not_mem_nil
def alk_8 : List (Nat × Nat) := []
theorem alk_8_ok : ∀ e ∈ alk_8, AG RX8 e.1 e.2 := fun _ h => absurd h List.not_mem_nil
def dlk_8 : List (Nat × Int) := []
theorem dlk_8_ok : ∀ e ∈ dlk_8, Cond.constant RX8 e.1 (iI e.2) ∈ lw_all := fun _ h => absurd h List.not_mem_nil
def d2k_8 : List (Nat × Int) := []
theorem d2k_8_ok : ∀ e ∈ d2k_8, Cond.constantLong RX8 e.1 (lI e.2) ∈ lw_all := fun _ h => absurd h List.not_mem_nil
def fck_8 : List (Nat × UInt32) := []
theorem fck_8_ok : ∀ e ∈ fck_8, Cond.constantFloat RX8 e.1 e.2 ∈ lw_all := fun _ h => absurd h List.not_mem_nil
def flk_9 : List (Nat × Nat × Nat) := [(7, 10, 0), (25, 7, 0)]
theorem flk_9_0 : (fun e : Nat × Nat × Nat => FG RX9 e.1 e.2.1 e.2.2) ((7, 10, 0)) := FG.mk' (i := 9) (k := 0) (by decide) (by decide) rfl (by decide) (Or.inl q2262) (Or.inl rfl) (Or.inl rfl)
theorem flk_9_1 : (fun e : Nat × Nat × Nat => FG RX9 e.1 e.2.1 e.2.2) ((25, 7, 0)) := FG.mk' (i := 6) (k := 0) (by decide) (by decide) rfl (by decide) (Or.inr ⟨_, q1568⟩) (Or.inl rfl) (Or.inl rfl)
theorem flk_9_ok : ∀ e ∈ flk_9, FG RX9 e.1 e.2.1 e.2.2 := List.forall_mem_cons.mpr ⟨flk_9_0, List.forall_mem_cons.mpr ⟨flk_9_1, fun _ h => absurd h List.not_mem_nil⟩⟩
def plk_9 : List (Nat × Nat × Nat × FieldType × Bool) := [(7, 10, 0, tyX9 0, true)]
theorem plk_9_0 : (fun e : Nat × Nat × Nat × FieldType × Bool => PG RX9 e.1 e.2.1 e.2.2.1 e.2.2.2.1 e.2.2.2.2) ((7, 10, 0, tyX9 0, true)) := PG.mk' (i := 9) (k := 0) (by decide) (by decide) rfl (by decide) (Or.inl q2262) (Or.inl rfl) rfl rfl (fun _ => rfl)
theorem plk_9_ok : ∀ e ∈ plk_9, PG RX9 e.1 e.2.1 e.2.2.1 e.2.2.2.1 e.2.2.2.2 := List.forall_mem_cons.mpr ⟨plk_9_0, fun _ h => absurd h List.not_mem_nil⟩
def nlk_9 : List (Nat × Nat) := []
theorem nlk_9_ok : ∀ e ∈ nlk_9, NG RX9 e.1 e.2 := fun _ h => absurd h List.not_mem_nil
def cls_9 : List (Nat × Nat × Nat) := [(19, 2, 308)]
theorem cls_9_0 : (fun e : Nat × Nat × Nat => CS RX9 (.invokestatic e.1) 3 0 e.2.1 (mth e.2.2)) ((19, 2, 308)) := CS.S mk_J18_compare q1988 q1158 (by decide +kernel) (by decide +kernel)
theorem cls_9_ok : ∀ e ∈ cls_9, CS RX9 (.invokestatic e.1) 3 0 e.2.1 (mth e.2.2) := List.forall_mem_cons.mpr ⟨cls_9_0, fun _ h => absurd h List.not_mem_nil⟩
def cli_9 : List (Nat × Nat × Nat) := [(1, 1, 354)]
theorem cli_9_0 : (fun e : Nat × Nat × Nat => ∀ tag, tag ≠ 0 → CS RX9 (.invokespecial e.1) 3 tag e.2.1 (mth e.2.2)) ((1, 1, 354)) := fun tag ht => CS.I mk_J45_init q2261 q163 rfl rfl ht (by decide +kernel) (by decide +kernel)
theorem cli_9_ok : ∀ e ∈ cli_9, ∀ tag, tag ≠ 0 → CS RX9 (.invokespecial e.1) 3 tag e.2.1 (mth e.2.2) := List.forall_mem_cons.mpr ⟨cli_9_0, fun _ h => absurd h List.not_mem_nil⟩
def clv_9 : List (Instr × Nat × Nat × Nat × Nat) := [((.invokevirtual 29), 3, 10, 3, 197), ((.invokevirtual 13), 3, 7, 2, 184)]
theorem clv_9_0 : (fun e : Instr × Nat × Nat × Nat × Nat => CS RX9 e.1 e.2.1 e.2.2.1 e.2.2.2.1 (mth e.2.2.2.2)) (((.invokevirtual 29), 3, 10, 3, 197)) := CS.V (i := 9) mk_X9_compare_2 ⟨by decide, Or.inl rfl, rfl⟩ rfl q1974 q1975 q1976 (by decide +kernel) (by decide +kernel)
theorem clv_9_1 : (fun e : Instr × Nat × Nat × Nat × Nat => CS RX9 e.1 e.2.1 e.2.2.1 e.2.2.2.1 (mth e.2.2.2.2)) (((.invokevirtual 13), 3, 7, 2, 184)) := CS.V (i := 6) mk_X6_loss ⟨by decide, Or.inl rfl, rfl⟩ rfl q1978 q1979 q1980 (by decide +kernel) (by decide +kernel)
theorem clv_9_ok : ∀ e ∈ clv_9, CS RX9 e.1 e.2.1 e.2.2.1 e.2.2.2.1 (mth e.2.2.2.2) := List.forall_mem_cons.mpr ⟨clv_9_0, List.forall_mem_cons.mpr ⟨clv_9_1, fun _ h => absurd h List.not_mem_nil⟩⟩
def klk_9 : List (Nat × Nat) := [(14, 7)]
theorem klk_9_0 : (fun e : Nat × Nat => CG RX9 e.1 e.2) ((14, 7)) := ⟨6, (RX6, TX6, 7), _, by decide, Or.inl rfl, rfl, q1973, Or.inl ⟨rfl, by decide⟩⟩
theorem klk_9_ok : ∀ e ∈ klk_9, CG RX9 e.1 e.2 := List.forall_mem_cons.mpr ⟨klk_9_0, fun _ h => absurd h List.not_mem_nil⟩
def ilk_9 : List (Nat × Nat) := []
theorem ilk_9_ok : ∀ e ∈ ilk_9, CG RX9 e.1 e.2 := fun _ h => absurd h List.not_mem_nil
def slk_9 : List (Nat × Nat) := []
theorem slk_9_ok : ∀ e ∈ slk_9, GS RX9 e.1 e.2 := fun _ h => absurd h List.not_mem_nil
def alk_9 : List (Nat × Nat) := []
theorem alk_9_ok : ∀ e ∈ alk_9, AG RX9 e.1 e.2 := fun _ h => absurd h List.not_mem_nil
def dlk_9 : List (Nat × Int) := []
theorem dlk_9_ok : ∀ e ∈ dlk_9, Cond.constant RX9 e.1 (iI e.2) ∈ lw_all := fun _ h => absurd h List.not_mem_nil
def d2k_9 : List (Nat × Int) := []
theorem d2k_9_ok : ∀ e ∈ d2k_9, Cond.constantLong RX9 e.1 (lI e.2) ∈ lw_all := fun _ h => absurd h List.not_mem_nil
def fck_9 : List (Nat × UInt32) := []
theorem fck_9_ok : ∀ e ∈ fck_9, Cond.constantFloat RX9 e.1 e.2 ∈ lw_all := fun _ h => absurd h List.not_mem_nil
def flk_10 : List (Nat × Nat × Nat) := [(3, 11, 5), (17, 1, 0), (103, 11, 3), (27, 11, 1), (31, 1, 2), (24, 11, 0), (100, 11, 4), (57, 2, 1), (67, 2, 0)]
theorem flk_10_0 : (fun e : Nat × Nat × Nat => FG RX10 e.1 e.2.1 e.2.2) ((3, 11, 5)) := FG.mk' (i := 10) (k := 5) (by decide) (by decide) rfl (by decide) (Or.inl q2652) (Or.inl rfl) (Or.inl rfl)
theorem flk_10_1 : (fun e : Nat × Nat × Nat => FG RX10 e.1 e.2.1 e.2.2) ((17, 1, 0)) := FG.mk' (i := 0) (k := 0) (by decide) (by decide) rfl (by decide) (Or.inr ⟨_, q407⟩) (Or.inl rfl) (Or.inl rfl)
theorem flk_10_2 : (fun e : Nat × Nat × Nat => FG RX10 e.1 e.2.1 e.2.2) ((103, 11, 3)) := FG.mk' (i := 10) (k := 3) (by decide) (by decide) rfl (by decide) (Or.inl q2648) (Or.inl rfl) (Or.inl rfl)
theorem flk_10_3 : (fun e : Nat × Nat × Nat => FG RX10 e.1 e.2.1 e.2.2) ((27, 11, 1)) := FG.mk' (i := 10) (k := 1) (by decide) (by decide) rfl (by decide) (Or.inl q2645) (Or.inl rfl) (Or.inl rfl)
theorem flk_10_4 : (fun e : Nat × Nat × Nat => FG RX10 e.1 e.2.1 e.2.2) ((31, 1, 2)) := FG.mk' (i := 0) (k := 2) (by decide) (by decide) rfl (by decide) (Or.inr ⟨_, q410⟩) (Or.inl rfl) (Or.inl rfl)
theorem flk_10_5 : (fun e : Nat × Nat × Nat => FG RX10 e.1 e.2.1 e.2.2) ((24, 11, 0)) := FG.mk' (i := 10) (k := 0) (by decide) (by decide) rfl (by decide) (Or.inl q2643) (Or.inl rfl) (Or.inl rfl)
theorem flk_10_6 : (fun e : Nat × Nat × Nat => FG RX10 e.1 e.2.1 e.2.2) ((100, 11, 4)) := FG.mk' (i := 10) (k := 4) (by decide) (by decide) rfl (by decide) (Or.inl q2650) (Or.inl rfl) (Or.inl rfl)
theorem flk_10_7 : (fun e : Nat × Nat × Nat => FG RX10 e.1 e.2.1 e.2.2) ((57, 2, 1)) := FG.mk' (i := 1) (k := 1) (by decide) (by decide) rfl (by decide) (Or.inr ⟨_, q282⟩) (Or.inl rfl) (Or.inl rfl)
theorem flk_10_8 : (fun e : Nat × Nat × Nat => FG RX10 e.1 e.2.1 e.2.2) ((67, 2, 0)) := FG.mk' (i := 1) (k := 0) (by decide) (by decide) rfl (by decide) (Or.inr ⟨_, q279⟩) (Or.inl rfl) (Or.inl rfl)
theorem flk_10_ok : ∀ e ∈ flk_10, FG RX10 e.1 e.2.1 e.2.2 := List.forall_mem_cons.mpr ⟨flk_10_0, List.forall_mem_cons.mpr ⟨flk_10_1, List.forall_mem_cons.mpr ⟨flk_10_2, List.forall_mem_cons.mpr ⟨flk_10_3, List.forall_mem_cons.mpr ⟨flk_10_4, List.forall_mem_cons.mpr ⟨flk_10_5, List.forall_mem_cons.mpr ⟨flk_10_6, List.forall_mem_cons.mpr ⟨flk_10_7, List.forall_mem_cons.mpr ⟨flk_10_8, fun _ h => absurd h List.not_mem_nil⟩⟩⟩⟩⟩⟩⟩⟩⟩
def plk_10 : List (Nat × Nat × Nat × FieldType × Bool) := [(3, 11, 5, tyX10 5, true), (24, 11, 0, tyX10 0, true), (106, 11, 2, tyX10 2, false), (103, 11, 3, tyX10 3, false), (27, 11, 1, tyX10 1, false), (100, 11, 4, tyX10 4, false)]
theorem plk_10_0 : (fun e : Nat × Nat × Nat × FieldType × Bool => PG RX10 e.1 e.2.1 e.2.2.1 e.2.2.2.1 e.2.2.2.2) ((3, 11, 5, tyX10 5, true)) := PG.mk' (i := 10) (k := 5) (by decide) (by decide) rfl (by decide) (Or.inl q2652) (Or.inl rfl) rfl rfl (fun _ => rfl)
theorem plk_10_1 : (fun e : Nat × Nat × Nat × FieldType × Bool => PG RX10 e.1 e.2.1 e.2.2.1 e.2.2.2.1 e.2.2.2.2) ((24, 11, 0, tyX10 0, true)) := PG.mk' (i := 10) (k := 0) (by decide) (by decide) rfl (by decide) (Or.inl q2643) (Or.inl rfl) rfl rfl (fun _ => rfl)
theorem plk_10_2 : (fun e : Nat × Nat × Nat × FieldType × Bool => PG RX10 e.1 e.2.1 e.2.2.1 e.2.2.2.1 e.2.2.2.2) ((106, 11, 2, tyX10 2, false)) := PG.mk' (i := 10) (k := 2) (by decide) (by decide) rfl (by decide) (Or.inl q2646) (Or.inl rfl) rfl rfl (fun h => by cases h)
theorem plk_10_3 : (fun e : Nat × Nat × Nat × FieldType × Bool => PG RX10 e.1 e.2.1 e.2.2.1 e.2.2.2.1 e.2.2.2.2) ((103, 11, 3, tyX10 3, false)) := PG.mk' (i := 10) (k := 3) (by decide) (by decide) rfl (by decide) (Or.inl q2648) (Or.inl rfl) rfl rfl (fun h => by cases h)
theorem plk_10_4 : (fun e : Nat × Nat × Nat × FieldType × Bool => PG RX10 e.1 e.2.1 e.2.2.1 e.2.2.2.1 e.2.2.2.2) ((27, 11, 1, tyX10 1, false)) := PG.mk' (i := 10) (k := 1) (by decide) (by decide) rfl (by decide) (Or.inl q2645) (Or.inl rfl) rfl rfl (fun h => by cases h)
theorem plk_10_5 : (fun e : Nat × Nat × Nat × FieldType × Bool => PG RX10 e.1 e.2.1 e.2.2.1 e.2.2.2.1 e.2.2.2.2) ((100, 11, 4, tyX10 4, false)) := PG.mk' (i := 10) (k := 4) (by decide) (by decide) rfl (by decide) (Or.inl q2650) (Or.inl rfl) rfl rfl (fun h => by cases h)
theorem plk_10_ok : ∀ e ∈ plk_10, PG RX10 e.1 e.2.1 e.2.2.1 e.2.2.2.1 e.2.2.2.2 := List.forall_mem_cons.mpr ⟨plk_10_0, List.forall_mem_cons.mpr ⟨plk_10_1, List.forall_mem_cons.mpr ⟨plk_10_2, List.forall_mem_cons.mpr ⟨plk_10_3, List.forall_mem_cons.mpr ⟨plk_10_4, List.forall_mem_cons.mpr ⟨plk_10_5, fun _ h => absurd h List.not_mem_nil⟩⟩⟩⟩⟩⟩
def nlk_10 : List (Nat × Nat) := [(15, 1)]
theorem nlk_10_0 : (fun e : Nat × Nat => NG RX10 e.1 e.2) ((15, 1)) := ⟨by decide, by decide, _, rfl, q2641, q166, q99⟩
theorem nlk_10_ok : ∀ e ∈ nlk_10, NG RX10 e.1 e.2 := List.forall_mem_cons.mpr ⟨nlk_10_0, fun _ h => absurd h List.not_mem_nil⟩
def cls_10 : List (Nat × Nat × Nat) := [(49, 3, 3)]
theorem cls_10_0 : (fun e : Nat × Nat × Nat => CS RX10 (.invokestatic e.1) 3 0 e.2.1 (mth e.2.2)) ((49, 3, 3)) := CS.SN mk_X0_isBetween q2749 q431 (by decide +kernel) (by decide +kernel)
theorem cls_10_ok : ∀ e ∈ cls_10, CS RX10 (.invokestatic e.1) 3 0 e.2.1 (mth e.2.2) := List.forall_mem_cons.mpr ⟨cls_10_0, fun _ h => absurd h List.not_mem_nil⟩
def cli_10 : List (Nat × Nat × Nat) := [(9, 1, 354), (21, 2, 51)]
theorem cli_10_0 : (fun e : Nat × Nat × Nat => ∀ tag, tag ≠ 0 → CS RX10 (.invokespecial e.1) 3 tag e.2.1 (mth e.2.2)) ((9, 1, 354)) := fun tag ht => CS.I mk_J45_init q2640 q163 rfl rfl ht (by decide +kernel) (by decide +kernel)
theorem cli_10_1 : (fun e : Nat × Nat × Nat => ∀ tag, tag ≠ 0 → CS RX10 (.invokespecial e.1) 3 tag e.2.1 (mth e.2.2)) ((21, 2, 51)) := fun tag ht => CS.I mk_X1_init_2 q2642 q440 rfl rfl ht (by decide +kernel) (by decide +kernel)
theorem cli_10_ok : ∀ e ∈ cli_10, ∀ tag, tag ≠ 0 → CS RX10 (.invokespecial e.1) 3 tag e.2.1 (mth e.2.2) := List.forall_mem_cons.mpr ⟨cli_10_0, List.forall_mem_cons.mpr ⟨cli_10_1, fun _ h => absurd h List.not_mem_nil⟩⟩
def clv_10 : List (Instr × Nat × Nat × Nat × Nat) := [((.invokevirtual 35), 3, 15, 1, 266), ((.invokevirtual 109), 3, 11, 1, 201), ((.invokevirtual 41), 3, 15, 2, 269), ((.invokevirtual 78), 3, 216, 2, 273), ((.invokevirtual 84), 3, 11, 1, 202), ((.invokevirtual 87), 3, 11, 1, 204), ((.invokevirtual 90), 3, 11, 3, 205), ((.invokevirtual 94), 3, 11, 3, 206), ((.invokevirtual 97), 3, 1, 4, 23), ((.invokevirtual 53), 3, 11, 1, 203), ((.invokevirtual 61), 3, 3, 2, 77), ((.invokevirtual 72), 3, 1, 4, 19)]
theorem clv_10_0 : (fun e : Instr × Nat × Nat × Nat × Nat => CS RX10 e.1 e.2.1 e.2.2.1 e.2.2.2.1 (mth e.2.2.2.2)) (((.invokevirtual 35), 3, 15, 1, 266)) := CS.V (i := 14) mk_J8_length ⟨by decide, Or.inl rfl, rfl⟩ rfl q2670 q2518 q2519 (by decide +kernel) (by decide +kernel)
theorem clv_10_1 : (fun e : Instr × Nat × Nat × Nat × Nat => CS RX10 e.1 e.2.1 e.2.2.1 e.2.2.2.1 (mth e.2.2.2.2)) (((.invokevirtual 109), 3, 11, 1, 201)) := CS.V (i := 10) mk_X10_why ⟨by decide, Or.inl rfl, rfl⟩ rfl q2671 q2673 qs43 (by decide +kernel) (by decide +kernel)
theorem clv_10_2 : (fun e : Instr × Nat × Nat × Nat × Nat => CS RX10 e.1 e.2.1 e.2.2.1 e.2.2.2.1 (mth e.2.2.2.2)) (((.invokevirtual 41), 3, 15, 2, 269)) := CS.V (i := 14) mk_J8_charAt ⟨by decide, Or.inl rfl, rfl⟩ rfl q2676 q2677 q2678 (by decide +kernel) (by decide +kernel)
theorem clv_10_3 : (fun e : Instr × Nat × Nat × Nat × Nat => CS RX10 e.1 e.2.1 e.2.2.1 e.2.2.2.1 (mth e.2.2.2.2)) (((.invokevirtual 78), 3, 216, 2, 273)) := CS.V (i := 15) mk_J9_indexOf ⟨by decide, Or.inr rfl, rfl⟩ rfl q2686 q2687 q2688 (by decide +kernel) (by decide +kernel)
theorem clv_10_4 : (fun e : Instr × Nat × Nat × Nat × Nat => CS RX10 e.1 e.2.1 e.2.2.1 e.2.2.2.1 (mth e.2.2.2.2)) (((.invokevirtual 84), 3, 11, 1, 202)) := CS.V (i := 10) mk_X10_number ⟨by decide, Or.inl rfl, rfl⟩ rfl q2739 q2741 qs44 (by decide +kernel) (by decide +kernel)
theorem clv_10_5 : (fun e : Instr × Nat × Nat × Nat × Nat => CS RX10 e.1 e.2.1 e.2.2.1 e.2.2.2.1 (mth e.2.2.2.2)) (((.invokevirtual 87), 3, 11, 1, 204)) := CS.V (i := 10) mk_X10_ends ⟨by decide, Or.inl rfl, rfl⟩ rfl q2750 q2752 qs46 (by decide +kernel) (by decide +kernel)
theorem clv_10_6 : (fun e : Instr × Nat × Nat × Nat × Nat => CS RX10 e.1 e.2.1 e.2.2.1 e.2.2.2.1 (mth e.2.2.2.2)) (((.invokevirtual 90), 3, 11, 3, 205)) := CS.V (i := 10) mk_X10_isThere ⟨by decide, Or.inl rfl, rfl⟩ rfl q2754 q2756 qs47 (by decide +kernel) (by decide +kernel)
theorem clv_10_7 : (fun e : Instr × Nat × Nat × Nat × Nat => CS RX10 e.1 e.2.1 e.2.2.1 e.2.2.2.1 (mth e.2.2.2.2)) (((.invokevirtual 94), 3, 11, 3, 206)) := CS.V (i := 10) mk_X10_can ⟨by decide, Or.inl rfl, rfl⟩ rfl q2759 q2761 qs48 (by decide +kernel) (by decide +kernel)
theorem clv_10_8 : (fun e : Instr × Nat × Nat × Nat × Nat => CS RX10 e.1 e.2.1 e.2.2.1 e.2.2.2.1 (mth e.2.2.2.2)) (((.invokevirtual 97), 3, 1, 4, 23)) := CS.VN (i := 0) mk_X0_make ⟨by decide, Or.inl rfl, rfl⟩ q2765 q2164 qs32 (by decide +kernel) (by decide +kernel)
theorem clv_10_9 : (fun e : Instr × Nat × Nat × Nat × Nat => CS RX10 e.1 e.2.1 e.2.2.1 e.2.2.2.1 (mth e.2.2.2.2)) (((.invokevirtual 53), 3, 11, 1, 203)) := CS.V (i := 10) mk_X10_isDigit ⟨by decide, Or.inl rfl, rfl⟩ rfl q2743 q2745 qs45 (by decide +kernel) (by decide +kernel)
theorem clv_10_10 : (fun e : Instr × Nat × Nat × Nat × Nat => CS RX10 e.1 e.2.1 e.2.2.1 e.2.2.2.1 (mth e.2.2.2.2)) (((.invokevirtual 61), 3, 3, 2, 77)) := CS.V (i := 2) mk_X2_isIn ⟨by decide, Or.inl rfl, rfl⟩ rfl q2758 q1743 q1744 (by decide +kernel) (by decide +kernel)
theorem clv_10_11 : (fun e : Instr × Nat × Nat × Nat × Nat => CS RX10 e.1 e.2.1 e.2.2.1 e.2.2.2.1 (mth e.2.2.2.2)) (((.invokevirtual 72), 3, 1, 4, 19)) := CS.VN (i := 0) mk_X0_refuses ⟨by decide, Or.inl rfl, rfl⟩ q2764 q2079 qs19 (by decide +kernel) (by decide +kernel)
theorem clv_10_ok : ∀ e ∈ clv_10, CS RX10 e.1 e.2.1 e.2.2.1 e.2.2.2.1 (mth e.2.2.2.2) := List.forall_mem_cons.mpr ⟨clv_10_0, List.forall_mem_cons.mpr ⟨clv_10_1, List.forall_mem_cons.mpr ⟨clv_10_2, List.forall_mem_cons.mpr ⟨clv_10_3, List.forall_mem_cons.mpr ⟨clv_10_4, List.forall_mem_cons.mpr ⟨clv_10_5, List.forall_mem_cons.mpr ⟨clv_10_6, List.forall_mem_cons.mpr ⟨clv_10_7, List.forall_mem_cons.mpr ⟨clv_10_8, List.forall_mem_cons.mpr ⟨clv_10_9, List.forall_mem_cons.mpr ⟨clv_10_10, List.forall_mem_cons.mpr ⟨clv_10_11, fun _ h => absurd h List.not_mem_nil⟩⟩⟩⟩⟩⟩⟩⟩⟩⟩⟩⟩
def klk_10 : List (Nat × Nat) := []
theorem klk_10_ok : ∀ e ∈ klk_10, CG RX10 e.1 e.2 := fun _ h => absurd h List.not_mem_nil
def ilk_10 : List (Nat × Nat) := []
theorem ilk_10_ok : ∀ e ∈ ilk_10, CG RX10 e.1 e.2 := fun _ h => absurd h List.not_mem_nil
def slk_10 : List (Nat × Nat) := []
theorem slk_10_ok : ∀ e ∈ slk_10, GS RX10 e.1 e.2 := fun _ h => absurd h List.not_mem_nil
def alk_10 : List (Nat × Nat) := []
theorem alk_10_ok : ∀ e ∈ alk_10, AG RX10 e.1 e.2 := fun _ h => absurd h List.not_mem_nil
def dlk_10 : List (Nat × Int) := []
theorem dlk_10_ok : ∀ e ∈ dlk_10, Cond.constant RX10 e.1 (iI e.2) ∈ lw_all := fun _ h => absurd h List.not_mem_nil
def d2k_10 : List (Nat × Int) := [(45, 48), (47, 57), (70, 50)]
theorem d2k_10_0 : (fun e : Nat × Int => Cond.constantLong RX10 e.1 (lI e.2) ∈ lw_all) ((45, 48)) := q2747
theorem d2k_10_1 : (fun e : Nat × Int => Cond.constantLong RX10 e.1 (lI e.2) ∈ lw_all) ((47, 57)) := q2748
theorem d2k_10_2 : (fun e : Nat × Int => Cond.constantLong RX10 e.1 (lI e.2) ∈ lw_all) ((70, 50)) := q2763
theorem d2k_10_ok : ∀ e ∈ d2k_10, Cond.constantLong RX10 e.1 (lI e.2) ∈ lw_all := List.forall_mem_cons.mpr ⟨d2k_10_0, List.forall_mem_cons.mpr ⟨d2k_10_1, List.forall_mem_cons.mpr ⟨d2k_10_2, fun _ h => absurd h List.not_mem_nil⟩⟩⟩
def fck_10 : List (Nat × UInt32) := []
theorem fck_10_ok : ∀ e ∈ fck_10, Cond.constantFloat RX10 e.1 e.2 ∈ lw_all := fun _ h => absurd h List.not_mem_nil
def flk_100 : List (Nat × Nat × Nat) := []
theorem flk_100_ok : ∀ e ∈ flk_100, FG RJ0 e.1 e.2.1 e.2.2 := fun _ h => absurd h List.not_mem_nil
def plk_100 : List (Nat × Nat × Nat × FieldType × Bool) := []
theorem plk_100_ok : ∀ e ∈ plk_100, PG RJ0 e.1 e.2.1 e.2.2.1 e.2.2.2.1 e.2.2.2.2 := fun _ h => absurd h List.not_mem_nil
def nlk_100 : List (Nat × Nat) := []
theorem nlk_100_ok : ∀ e ∈ nlk_100, NG RJ0 e.1 e.2 := fun _ h => absurd h List.not_mem_nil
def cls_100 : List (Nat × Nat × Nat) := []
theorem cls_100_ok : ∀ e ∈ cls_100, CS RJ0 (.invokestatic e.1) 3 0 e.2.1 (mth e.2.2) := fun _ h => absurd h List.not_mem_nil
def cli_100 : List (Nat × Nat × Nat) := [(1, 1, 354)]
theorem cli_100_0 : (fun e : Nat × Nat × Nat => ∀ tag, tag ≠ 0 → CS RJ0 (.invokespecial e.1) 3 tag e.2.1 (mth e.2.2)) ((1, 1, 354)) := fun tag ht => CS.I mk_J45_init q188 q163 rfl rfl ht (by decide +kernel) (by decide +kernel)
theorem cli_100_ok : ∀ e ∈ cli_100, ∀ tag, tag ≠ 0 → CS RJ0 (.invokespecial e.1) 3 tag e.2.1 (mth e.2.2) := List.forall_mem_cons.mpr ⟨cli_100_0, fun _ h => absurd h List.not_mem_nil⟩
def clv_100 : List (Instr × Nat × Nat × Nat × Nat) := []
theorem clv_100_ok : ∀ e ∈ clv_100, CS RJ0 e.1 e.2.1 e.2.2.1 e.2.2.2.1 (mth e.2.2.2.2) := fun _ h => absurd h List.not_mem_nil
def klk_100 : List (Nat × Nat) := []
theorem klk_100_ok : ∀ e ∈ klk_100, CG RJ0 e.1 e.2 := fun _ h => absurd h List.not_mem_nil
def ilk_100 : List (Nat × Nat) := []
theorem ilk_100_ok : ∀ e ∈ ilk_100, CG RJ0 e.1 e.2 := fun _ h => absurd h List.not_mem_nil
def slk_100 : List (Nat × Nat) := []
theorem slk_100_ok : ∀ e ∈ slk_100, GS RJ0 e.1 e.2 := fun _ h => absurd h List.not_mem_nil
def alk_100 : List (Nat × Nat) := []
theorem alk_100_ok : ∀ e ∈ alk_100, AG RJ0 e.1 e.2 := fun _ h => absurd h List.not_mem_nil
def dlk_100 : List (Nat × Int) := []
theorem dlk_100_ok : ∀ e ∈ dlk_100, Cond.constant RJ0 e.1 (iI e.2) ∈ lw_all := fun _ h => absurd h List.not_mem_nil
def d2k_100 : List (Nat × Int) := []
theorem d2k_100_ok : ∀ e ∈ d2k_100, Cond.constantLong RJ0 e.1 (lI e.2) ∈ lw_all := fun _ h => absurd h List.not_mem_nil
def fck_100 : List (Nat × UInt32) := []
theorem fck_100_ok : ∀ e ∈ fck_100, Cond.constantFloat RJ0 e.1 e.2 ∈ lw_all := fun _ h => absurd h List.not_mem_nil
def flk_101 : List (Nat × Nat × Nat) := []
theorem flk_101_ok : ∀ e ∈ flk_101, FG RJ1 e.1 e.2.1 e.2.2 := fun _ h => absurd h List.not_mem_nil
def plk_101 : List (Nat × Nat × Nat × FieldType × Bool) := [(7, 12, 0, tyJ2 0, false)]
theorem plk_101_0 : (fun e : Nat × Nat × Nat × FieldType × Bool => PG RJ1 e.1 e.2.1 e.2.2.1 e.2.2.2.1 e.2.2.2.2) ((7, 12, 0, tyJ2 0, false)) := PG.mk' (i := 11) (k := 0) (by decide) (by decide) rfl (by decide) (Or.inl q195) (Or.inl rfl) rfl rfl (fun h => by cases h)
theorem plk_101_ok : ∀ e ∈ plk_101, PG RJ1 e.1 e.2.1 e.2.2.1 e.2.2.2.1 e.2.2.2.2 := List.forall_mem_cons.mpr ⟨plk_101_0, fun _ h => absurd h List.not_mem_nil⟩
def nlk_101 : List (Nat × Nat) := []
theorem nlk_101_ok : ∀ e ∈ nlk_101, NG RJ1 e.1 e.2 := fun _ h => absurd h List.not_mem_nil
def cls_101 : List (Nat × Nat × Nat) := []
theorem cls_101_ok : ∀ e ∈ cls_101, CS RJ1 (.invokestatic e.1) 3 0 e.2.1 (mth e.2.2) := fun _ h => absurd h List.not_mem_nil
def cli_101 : List (Nat × Nat × Nat) := [(1, 1, 207)]
theorem cli_101_0 : (fun e : Nat × Nat × Nat => ∀ tag, tag ≠ 0 → CS RJ1 (.invokespecial e.1) 3 tag e.2.1 (mth e.2.2)) ((1, 1, 207)) := fun tag ht => CS.I mk_J0_init q185 q186 rfl rfl ht (by decide +kernel) (by decide +kernel)
theorem cli_101_ok : ∀ e ∈ cli_101, ∀ tag, tag ≠ 0 → CS RJ1 (.invokespecial e.1) 3 tag e.2.1 (mth e.2.2) := List.forall_mem_cons.mpr ⟨cli_101_0, fun _ h => absurd h List.not_mem_nil⟩
def clv_101 : List (Instr × Nat × Nat × Nat × Nat) := []
theorem clv_101_ok : ∀ e ∈ clv_101, CS RJ1 e.1 e.2.1 e.2.2.1 e.2.2.2.1 (mth e.2.2.2.2) := fun _ h => absurd h List.not_mem_nil
def klk_101 : List (Nat × Nat) := []
theorem klk_101_ok : ∀ e ∈ klk_101, CG RJ1 e.1 e.2 := fun _ h => absurd h List.not_mem_nil
def ilk_101 : List (Nat × Nat) := []
theorem ilk_101_ok : ∀ e ∈ ilk_101, CG RJ1 e.1 e.2 := fun _ h => absurd h List.not_mem_nil
def slk_101 : List (Nat × Nat) := []
theorem slk_101_ok : ∀ e ∈ slk_101, GS RJ1 e.1 e.2 := fun _ h => absurd h List.not_mem_nil
def alk_101 : List (Nat × Nat) := []
theorem alk_101_ok : ∀ e ∈ alk_101, AG RJ1 e.1 e.2 := fun _ h => absurd h List.not_mem_nil
def dlk_101 : List (Nat × Int) := []
theorem dlk_101_ok : ∀ e ∈ dlk_101, Cond.constant RJ1 e.1 (iI e.2) ∈ lw_all := fun _ h => absurd h List.not_mem_nil
def d2k_101 : List (Nat × Int) := []
theorem d2k_101_ok : ∀ e ∈ d2k_101, Cond.constantLong RJ1 e.1 (lI e.2) ∈ lw_all := fun _ h => absurd h List.not_mem_nil
def fck_101 : List (Nat × UInt32) := []
theorem fck_101_ok : ∀ e ∈ fck_101, Cond.constantFloat RJ1 e.1 e.2 ∈ lw_all := fun _ h => absurd h List.not_mem_nil
def flk_102 : List (Nat × Nat × Nat) := [(63, 12, 0), (9, 12, 1), (48, 12, 2)]
theorem flk_102_0 : (fun e : Nat × Nat × Nat => FG RJ2 e.1 e.2.1 e.2.2) ((63, 12, 0)) := FG.mk' (i := 11) (k := 0) (by decide) (by decide) rfl (by decide) (Or.inl q198) (Or.inr q197) (Or.inl rfl)
theorem flk_102_1 : (fun e : Nat × Nat × Nat => FG RJ2 e.1 e.2.1 e.2.2) ((9, 12, 1)) := FG.mk' (i := 11) (k := 1) (by decide) (by decide) rfl (by decide) (Or.inl q191) (Or.inl rfl) (Or.inl rfl)
theorem flk_102_2 : (fun e : Nat × Nat × Nat => FG RJ2 e.1 e.2.1 e.2.2) ((48, 12, 2)) := FG.mk' (i := 11) (k := 2) (by decide) (by decide) rfl (by decide) (Or.inl q194) (Or.inl rfl) (Or.inl rfl)
theorem flk_102_ok : ∀ e ∈ flk_102, FG RJ2 e.1 e.2.1 e.2.2 := List.forall_mem_cons.mpr ⟨flk_102_0, List.forall_mem_cons.mpr ⟨flk_102_1, List.forall_mem_cons.mpr ⟨flk_102_2, fun _ h => absurd h List.not_mem_nil⟩⟩⟩
def plk_102 : List (Nat × Nat × Nat × FieldType × Bool) := [(9, 12, 1, tyJ2 1, false), (63, 12, 0, tyJ2 0, false), (48, 12, 2, tyJ2 2, false)]
theorem plk_102_0 : (fun e : Nat × Nat × Nat × FieldType × Bool => PG RJ2 e.1 e.2.1 e.2.2.1 e.2.2.2.1 e.2.2.2.2) ((9, 12, 1, tyJ2 1, false)) := PG.mk' (i := 11) (k := 1) (by decide) (by decide) rfl (by decide) (Or.inl q191) (Or.inl rfl) rfl rfl (fun h => by cases h)
theorem plk_102_1 : (fun e : Nat × Nat × Nat × FieldType × Bool => PG RJ2 e.1 e.2.1 e.2.2.1 e.2.2.2.1 e.2.2.2.2) ((63, 12, 0, tyJ2 0, false)) := PG.mk' (i := 11) (k := 0) (by decide) (by decide) rfl (by decide) (Or.inl q198) (Or.inr q197) rfl rfl (fun h => by cases h)
theorem plk_102_2 : (fun e : Nat × Nat × Nat × FieldType × Bool => PG RJ2 e.1 e.2.1 e.2.2.1 e.2.2.2.1 e.2.2.2.2) ((48, 12, 2, tyJ2 2, false)) := PG.mk' (i := 11) (k := 2) (by decide) (by decide) rfl (by decide) (Or.inl q194) (Or.inl rfl) rfl rfl (fun h => by cases h)
theorem plk_102_ok : ∀ e ∈ plk_102, PG RJ2 e.1 e.2.1 e.2.2.1 e.2.2.2.1 e.2.2.2.2 := List.forall_mem_cons.mpr ⟨plk_102_0, List.forall_mem_cons.mpr ⟨plk_102_1, List.forall_mem_cons.mpr ⟨plk_102_2, fun _ h => absurd h List.not_mem_nil⟩⟩⟩
def nlk_102 : List (Nat × Nat) := [(267, 16)]
theorem nlk_102_0 : (fun e : Nat × Nat => NG RJ2 e.1 e.2) ((267, 16)) := ⟨by decide, by decide, _, rfl, q446, q447, q114⟩
theorem nlk_102_ok : ∀ e ∈ nlk_102, NG RJ2 e.1 e.2 := List.forall_mem_cons.mpr ⟨nlk_102_0, fun _ h => absurd h List.not_mem_nil⟩
def cls_102 : List (Nat × Nat × Nat) := [(73, 3, 329), (66, 2, 337), (79, 2, 335), (118, 2, 340)]
theorem cls_102_0 : (fun e : Nat × Nat × Nat => CS RJ2 (.invokestatic e.1) 3 0 e.2.1 (mth e.2.2)) ((73, 3, 329)) := CS.S mk_J30_newLength q1523 q1524 (by decide +kernel) (by decide +kernel)
theorem cls_102_1 : (fun e : Nat × Nat × Nat => CS RJ2 (.invokestatic e.1) 3 0 e.2.1 (mth e.2.2)) ((66, 2, 337)) := CS.S mk_J38_copyOf q1533 q1534 (by decide +kernel) (by decide +kernel)
theorem cls_102_2 : (fun e : Nat × Nat × Nat => CS RJ2 (.invokestatic e.1) 3 0 e.2.1 (mth e.2.2)) ((79, 2, 335)) := CS.S mk_J33_max q1546 q1527 (by decide +kernel) (by decide +kernel)
theorem cls_102_3 : (fun e : Nat × Nat × Nat => CS RJ2 (.invokestatic e.1) 3 0 e.2.1 (mth e.2.2)) ((118, 2, 340)) := CS.S mk_J39_checkIndex q1755 q1756 (by decide +kernel) (by decide +kernel)
theorem cls_102_ok : ∀ e ∈ cls_102, CS RJ2 (.invokestatic e.1) 3 0 e.2.1 (mth e.2.2) := List.forall_mem_cons.mpr ⟨cls_102_0, List.forall_mem_cons.mpr ⟨cls_102_1, List.forall_mem_cons.mpr ⟨cls_102_2, List.forall_mem_cons.mpr ⟨cls_102_3, fun _ h => absurd h List.not_mem_nil⟩⟩⟩⟩
def cli_102 : List (Nat × Nat × Nat) := [(1, 1, 208), (269, 2, 276)]
theorem cli_102_0 : (fun e : Nat × Nat × Nat => ∀ tag, tag ≠ 0 → CS RJ2 (.invokespecial e.1) 3 tag e.2.1 (mth e.2.2)) ((1, 1, 208)) := fun tag ht => CS.I mk_J1_init q182 q183 rfl rfl ht (by decide +kernel) (by decide +kernel)
theorem cli_102_1 : (fun e : Nat × Nat × Nat => ∀ tag, tag ≠ 0 → CS RJ2 (.invokespecial e.1) 3 tag e.2.1 (mth e.2.2)) ((269, 2, 276)) := fun tag ht => CS.I mk_J11_init q448 q449 rfl rfl ht (by decide +kernel) (by decide +kernel)
theorem cli_102_ok : ∀ e ∈ cli_102, ∀ tag, tag ≠ 0 → CS RJ2 (.invokespecial e.1) 3 tag e.2.1 (mth e.2.2) := List.forall_mem_cons.mpr ⟨cli_102_0, List.forall_mem_cons.mpr ⟨cli_102_1, fun _ h => absurd h List.not_mem_nil⟩⟩
def clv_102 : List (Instr × Nat × Nat × Nat × Nat) := [((.invokevirtual 131), 3, 12, 4, 212), ((.invokevirtual 129), 3, 12, 1, 213), ((.invokevirtual 69), 3, 12, 2, 214), ((.invokevirtual 123), 3, 12, 2, 217)]
theorem clv_102_0 : (fun e : Instr × Nat × Nat × Nat × Nat => CS RJ2 e.1 e.2.1 e.2.2.1 e.2.2.2.1 (mth e.2.2.2.2)) (((.invokevirtual 131), 3, 12, 4, 212)) := CS.V (i := 11) mk_J2_add_2 ⟨by decide, Or.inl rfl, rfl⟩ rfl q1511 q1513 qs3 (by decide +kernel) (by decide +kernel)
theorem clv_102_1 : (fun e : Instr × Nat × Nat × Nat × Nat => CS RJ2 e.1 e.2.1 e.2.2.1 e.2.2.2.1 (mth e.2.2.2.2)) (((.invokevirtual 129), 3, 12, 1, 213)) := CS.V (i := 11) mk_J2_grow ⟨by decide, Or.inl rfl, rfl⟩ rfl q1515 q1517 qs4 (by decide +kernel) (by decide +kernel)
theorem clv_102_2 : (fun e : Instr × Nat × Nat × Nat × Nat => CS RJ2 e.1 e.2.1 e.2.2.1 e.2.2.2.1 (mth e.2.2.2.2)) (((.invokevirtual 69), 3, 12, 2, 214)) := CS.V (i := 11) mk_J2_grow_2 ⟨by decide, Or.inl rfl, rfl⟩ rfl q1519 q1521 qs5 (by decide +kernel) (by decide +kernel)
theorem clv_102_3 : (fun e : Instr × Nat × Nat × Nat × Nat => CS RJ2 e.1 e.2.1 e.2.2.1 e.2.2.2.1 (mth e.2.2.2.2)) (((.invokevirtual 123), 3, 12, 2, 217)) := CS.V (i := 11) mk_J2_elementData ⟨by decide, Or.inl rfl, rfl⟩ rfl q1761 q1762 q1763 (by decide +kernel) (by decide +kernel)
theorem clv_102_ok : ∀ e ∈ clv_102, CS RJ2 e.1 e.2.1 e.2.2.1 e.2.2.2.1 (mth e.2.2.2.2) := List.forall_mem_cons.mpr ⟨clv_102_0, List.forall_mem_cons.mpr ⟨clv_102_1, List.forall_mem_cons.mpr ⟨clv_102_2, List.forall_mem_cons.mpr ⟨clv_102_3, fun _ h => absurd h List.not_mem_nil⟩⟩⟩⟩
def klk_102 : List (Nat × Nat) := []
theorem klk_102_ok : ∀ e ∈ klk_102, CG RJ2 e.1 e.2 := fun _ h => absurd h List.not_mem_nil
def ilk_102 : List (Nat × Nat) := []
theorem ilk_102_ok : ∀ e ∈ ilk_102, CG RJ2 e.1 e.2 := fun _ h => absurd h List.not_mem_nil
def slk_102 : List (Nat × Nat) := [(39, 0)]
theorem slk_102_0 : (fun e : Nat × Nat => GS RJ2 e.1 e.2) ((39, 0)) := ⟨_, rfl, "java/util/ArrayList", q189, Or.inl rfl⟩
theorem slk_102_ok : ∀ e ∈ slk_102, GS RJ2 e.1 e.2 := List.forall_mem_cons.mpr ⟨slk_102_0, fun _ h => absurd h List.not_mem_nil⟩
def alk_102 : List (Nat × Nat) := [(7, 3)]
theorem alk_102_0 : (fun e : Nat × Nat => AG RJ2 e.1 e.2) ((7, 3)) := ⟨"java/lang/Object", by decide, rfl, q1547, q315⟩
theorem alk_102_ok : ∀ e ∈ alk_102, AG RJ2 e.1 e.2 := List.forall_mem_cons.mpr ⟨alk_102_0, fun _ h => absurd h List.not_mem_nil⟩
def dlk_102 : List (Nat × Int) := []
theorem dlk_102_ok : ∀ e ∈ dlk_102, Cond.constant RJ2 e.1 (iI e.2) ∈ lw_all := fun _ h => absurd h List.not_mem_nil
def d2k_102 : List (Nat × Int) := []
theorem d2k_102_ok : ∀ e ∈ d2k_102, Cond.constantLong RJ2 e.1 (lI e.2) ∈ lw_all := fun _ h => absurd h List.not_mem_nil
def fck_102 : List (Nat × UInt32) := []
theorem fck_102_ok : ∀ e ∈ fck_102, Cond.constantFloat RJ2 e.1 e.2 ∈ lw_all := fun _ h => absurd h List.not_mem_nil
def flk_103 : List (Nat × Nat × Nat) := []
theorem flk_103_ok : ∀ e ∈ flk_103, FG RJ3 e.1 e.2.1 e.2.2 := fun _ h => absurd h List.not_mem_nil
def plk_103 : List (Nat × Nat × Nat × FieldType × Bool) := []
theorem plk_103_ok : ∀ e ∈ plk_103, PG RJ3 e.1 e.2.1 e.2.2.1 e.2.2.2.1 e.2.2.2.2 := fun _ h => absurd h List.not_mem_nil
def nlk_103 : List (Nat × Nat) := []
theorem nlk_103_ok : ∀ e ∈ nlk_103, NG RJ3 e.1 e.2 := fun _ h => absurd h List.not_mem_nil
def cls_103 : List (Nat × Nat × Nat) := []
theorem cls_103_ok : ∀ e ∈ cls_103, CS RJ3 (.invokestatic e.1) 3 0 e.2.1 (mth e.2.2) := fun _ h => absurd h List.not_mem_nil
def cli_103 : List (Nat × Nat × Nat) := [(1, 1, 354)]
theorem cli_103_0 : (fun e : Nat × Nat × Nat => ∀ tag, tag ≠ 0 → CS RJ3 (.invokespecial e.1) 3 tag e.2.1 (mth e.2.2)) ((1, 1, 354)) := fun tag ht => CS.I mk_J45_init q227 q163 rfl rfl ht (by decide +kernel) (by decide +kernel)
theorem cli_103_ok : ∀ e ∈ cli_103, ∀ tag, tag ≠ 0 → CS RJ3 (.invokespecial e.1) 3 tag e.2.1 (mth e.2.2) := List.forall_mem_cons.mpr ⟨cli_103_0, fun _ h => absurd h List.not_mem_nil⟩
def clv_103 : List (Instr × Nat × Nat × Nat × Nat) := []
theorem clv_103_ok : ∀ e ∈ clv_103, CS RJ3 e.1 e.2.1 e.2.2.1 e.2.2.2.1 (mth e.2.2.2.2) := fun _ h => absurd h List.not_mem_nil
def klk_103 : List (Nat × Nat) := []
theorem klk_103_ok : ∀ e ∈ klk_103, CG RJ3 e.1 e.2 := fun _ h => absurd h List.not_mem_nil
def ilk_103 : List (Nat × Nat) := []
theorem ilk_103_ok : ∀ e ∈ ilk_103, CG RJ3 e.1 e.2 := fun _ h => absurd h List.not_mem_nil
def slk_103 : List (Nat × Nat) := []
theorem slk_103_ok : ∀ e ∈ slk_103, GS RJ3 e.1 e.2 := fun _ h => absurd h List.not_mem_nil
def alk_103 : List (Nat × Nat) := []
theorem alk_103_ok : ∀ e ∈ alk_103, AG RJ3 e.1 e.2 := fun _ h => absurd h List.not_mem_nil
def dlk_103 : List (Nat × Int) := []
theorem dlk_103_ok : ∀ e ∈ dlk_103, Cond.constant RJ3 e.1 (iI e.2) ∈ lw_all := fun _ h => absurd h List.not_mem_nil
def d2k_103 : List (Nat × Int) := []
theorem d2k_103_ok : ∀ e ∈ d2k_103, Cond.constantLong RJ3 e.1 (lI e.2) ∈ lw_all := fun _ h => absurd h List.not_mem_nil
def fck_103 : List (Nat × UInt32) := []
theorem fck_103_ok : ∀ e ∈ fck_103, Cond.constantFloat RJ3 e.1 e.2 ∈ lw_all := fun _ h => absurd h List.not_mem_nil
def flk_104 : List (Nat × Nat × Nat) := [(105, 13, 0), (168, 24, 0), (170, 24, 1), (177, 24, 3), (162, 24, 2), (202, 13, 3), (156, 13, 2), (88, 13, 4), (81, 13, 5)]
theorem flk_104_0 : (fun e : Nat × Nat × Nat => FG RJ4 e.1 e.2.1 e.2.2) ((105, 13, 0)) := FG.mk' (i := 12) (k := 0) (by decide) (by decide) rfl (by decide) (Or.inl q236) (Or.inl rfl) (Or.inl rfl)
theorem flk_104_1 : (fun e : Nat × Nat × Nat => FG RJ4 e.1 e.2.1 e.2.2) ((168, 24, 0)) := FG.mk' (i := 23) (k := 0) (by decide) (by decide) rfl (by decide) (Or.inl q1054) (Or.inl rfl) (Or.inl rfl)
theorem flk_104_2 : (fun e : Nat × Nat × Nat => FG RJ4 e.1 e.2.1 e.2.2) ((170, 24, 1)) := FG.mk' (i := 23) (k := 1) (by decide) (by decide) rfl (by decide) (Or.inl q1061) (Or.inl rfl) (Or.inl rfl)
theorem flk_104_3 : (fun e : Nat × Nat × Nat => FG RJ4 e.1 e.2.1 e.2.2) ((177, 24, 3)) := FG.mk' (i := 23) (k := 3) (by decide) (by decide) rfl (by decide) (Or.inl q1072) (Or.inl rfl) (Or.inl rfl)
theorem flk_104_4 : (fun e : Nat × Nat × Nat => FG RJ4 e.1 e.2.1 e.2.2) ((162, 24, 2)) := FG.mk' (i := 23) (k := 2) (by decide) (by decide) rfl (by decide) (Or.inl q1065) (Or.inl rfl) (Or.inl rfl)
theorem flk_104_5 : (fun e : Nat × Nat × Nat => FG RJ4 e.1 e.2.1 e.2.2) ((202, 13, 3)) := FG.mk' (i := 12) (k := 3) (by decide) (by decide) rfl (by decide) (Or.inl q243) (Or.inl rfl) (Or.inl rfl)
theorem flk_104_6 : (fun e : Nat × Nat × Nat => FG RJ4 e.1 e.2.1 e.2.2) ((156, 13, 2)) := FG.mk' (i := 12) (k := 2) (by decide) (by decide) rfl (by decide) (Or.inl q238) (Or.inl rfl) (Or.inl rfl)
theorem flk_104_7 : (fun e : Nat × Nat × Nat => FG RJ4 e.1 e.2.1 e.2.2) ((88, 13, 4)) := FG.mk' (i := 12) (k := 4) (by decide) (by decide) rfl (by decide) (Or.inl q244) (Or.inl rfl) (Or.inl rfl)
theorem flk_104_8 : (fun e : Nat × Nat × Nat => FG RJ4 e.1 e.2.1 e.2.2) ((81, 13, 5)) := FG.mk' (i := 12) (k := 5) (by decide) (by decide) rfl (by decide) (Or.inl q245) (Or.inl rfl) (Or.inl rfl)
theorem flk_104_ok : ∀ e ∈ flk_104, FG RJ4 e.1 e.2.1 e.2.2 := List.forall_mem_cons.mpr ⟨flk_104_0, List.forall_mem_cons.mpr ⟨flk_104_1, List.forall_mem_cons.mpr ⟨flk_104_2, List.forall_mem_cons.mpr ⟨flk_104_3, List.forall_mem_cons.mpr ⟨flk_104_4, List.forall_mem_cons.mpr ⟨flk_104_5, List.forall_mem_cons.mpr ⟨flk_104_6, List.forall_mem_cons.mpr ⟨flk_104_7, List.forall_mem_cons.mpr ⟨flk_104_8, fun _ h => absurd h List.not_mem_nil⟩⟩⟩⟩⟩⟩⟩⟩⟩
def plk_104 : List (Nat × Nat × Nat × FieldType × Bool) := [(81, 13, 5, tyJ5 5, true), (88, 13, 4, tyJ5 4, false), (177, 24, 3, tyJ32 3, false), (162, 24, 2, tyJ32 2, false), (202, 13, 3, tyJ5 3, false), (156, 13, 2, tyJ5 2, false), (105, 13, 0, tyJ5 0, false)]
theorem plk_104_0 : (fun e : Nat × Nat × Nat × FieldType × Bool => PG RJ4 e.1 e.2.1 e.2.2.1 e.2.2.2.1 e.2.2.2.2) ((81, 13, 5, tyJ5 5, true)) := PG.mk' (i := 12) (k := 5) (by decide) (by decide) rfl (by decide) (Or.inl q245) (Or.inl rfl) rfl rfl (fun _ => rfl)
theorem plk_104_1 : (fun e : Nat × Nat × Nat × FieldType × Bool => PG RJ4 e.1 e.2.1 e.2.2.1 e.2.2.2.1 e.2.2.2.2) ((88, 13, 4, tyJ5 4, false)) := PG.mk' (i := 12) (k := 4) (by decide) (by decide) rfl (by decide) (Or.inl q244) (Or.inl rfl) rfl rfl (fun h => by cases h)
theorem plk_104_2 : (fun e : Nat × Nat × Nat × FieldType × Bool => PG RJ4 e.1 e.2.1 e.2.2.1 e.2.2.2.1 e.2.2.2.2) ((177, 24, 3, tyJ32 3, false)) := PG.mk' (i := 23) (k := 3) (by decide) (by decide) rfl (by decide) (Or.inl q1072) (Or.inl rfl) rfl rfl (fun h => by cases h)
theorem plk_104_3 : (fun e : Nat × Nat × Nat × FieldType × Bool => PG RJ4 e.1 e.2.1 e.2.2.1 e.2.2.2.1 e.2.2.2.2) ((162, 24, 2, tyJ32 2, false)) := PG.mk' (i := 23) (k := 2) (by decide) (by decide) rfl (by decide) (Or.inl q1065) (Or.inl rfl) rfl rfl (fun h => by cases h)
theorem plk_104_4 : (fun e : Nat × Nat × Nat × FieldType × Bool => PG RJ4 e.1 e.2.1 e.2.2.1 e.2.2.2.1 e.2.2.2.2) ((202, 13, 3, tyJ5 3, false)) := PG.mk' (i := 12) (k := 3) (by decide) (by decide) rfl (by decide) (Or.inl q243) (Or.inl rfl) rfl rfl (fun h => by cases h)
theorem plk_104_5 : (fun e : Nat × Nat × Nat × FieldType × Bool => PG RJ4 e.1 e.2.1 e.2.2.1 e.2.2.2.1 e.2.2.2.2) ((156, 13, 2, tyJ5 2, false)) := PG.mk' (i := 12) (k := 2) (by decide) (by decide) rfl (by decide) (Or.inl q238) (Or.inl rfl) rfl rfl (fun h => by cases h)
theorem plk_104_6 : (fun e : Nat × Nat × Nat × FieldType × Bool => PG RJ4 e.1 e.2.1 e.2.2.1 e.2.2.2.1 e.2.2.2.2) ((105, 13, 0, tyJ5 0, false)) := PG.mk' (i := 12) (k := 0) (by decide) (by decide) rfl (by decide) (Or.inl q236) (Or.inl rfl) rfl rfl (fun h => by cases h)
theorem plk_104_ok : ∀ e ∈ plk_104, PG RJ4 e.1 e.2.1 e.2.2.1 e.2.2.2.1 e.2.2.2.2 := List.forall_mem_cons.mpr ⟨plk_104_0, List.forall_mem_cons.mpr ⟨plk_104_1, List.forall_mem_cons.mpr ⟨plk_104_2, List.forall_mem_cons.mpr ⟨plk_104_3, List.forall_mem_cons.mpr ⟨plk_104_4, List.forall_mem_cons.mpr ⟨plk_104_5, List.forall_mem_cons.mpr ⟨plk_104_6, fun _ h => absurd h List.not_mem_nil⟩⟩⟩⟩⟩⟩⟩
def nlk_104 : List (Nat × Nat) := []
theorem nlk_104_ok : ∀ e ∈ nlk_104, NG RJ4 e.1 e.2 := fun _ h => absurd h List.not_mem_nil
def cls_104 : List (Nat × Nat × Nat) := [(70, 1, 306), (85, 1, 221), (34, 1, 307), (149, 1, 223)]
theorem cls_104_0 : (fun e : Nat × Nat × Nat => CS RJ4 (.invokestatic e.1) 3 0 e.2.1 (mth e.2.2)) ((70, 1, 306)) := CS.S mk_J17_isNaN q623 q624 (by decide +kernel) (by decide +kernel)
theorem cls_104_1 : (fun e : Nat × Nat × Nat => CS RJ4 (.invokestatic e.1) 3 0 e.2.1 (mth e.2.2)) ((85, 1, 221)) := CS.S mk_J4_tableSizeFor q626 q627 (by decide +kernel) (by decide +kernel)
theorem cls_104_2 : (fun e : Nat × Nat × Nat => CS RJ4 (.invokestatic e.1) 3 0 e.2.1 (mth e.2.2)) ((34, 1, 307)) := CS.S mk_J18_numberOfLeadingZeros q629 q630 (by decide +kernel) (by decide +kernel)
theorem cls_104_3 : (fun e : Nat × Nat × Nat => CS RJ4 (.invokestatic e.1) 3 0 e.2.1 (mth e.2.2)) ((149, 1, 223)) := CS.S mk_J4_hash q911 q912 (by decide +kernel) (by decide +kernel)
theorem cls_104_ok : ∀ e ∈ cls_104, CS RJ4 (.invokestatic e.1) 3 0 e.2.1 (mth e.2.2) := List.forall_mem_cons.mpr ⟨cls_104_0, List.forall_mem_cons.mpr ⟨cls_104_1, List.forall_mem_cons.mpr ⟨cls_104_2, List.forall_mem_cons.mpr ⟨cls_104_3, fun _ h => absurd h List.not_mem_nil⟩⟩⟩⟩
def cli_104 : List (Nat × Nat × Nat) := [(43, 1, 218)]
theorem cli_104_0 : (fun e : Nat × Nat × Nat => ∀ tag, tag ≠ 0 → CS RJ4 (.invokespecial e.1) 3 tag e.2.1 (mth e.2.2)) ((43, 1, 218)) := fun tag ht => CS.I mk_J3_init q224 q225 rfl rfl ht (by decide +kernel) (by decide +kernel)
theorem cli_104_ok : ∀ e ∈ cli_104, ∀ tag, tag ≠ 0 → CS RJ4 (.invokespecial e.1) 3 tag e.2.1 (mth e.2.2) := List.forall_mem_cons.mpr ⟨cli_104_0, fun _ h => absurd h List.not_mem_nil⟩
def clv_104 : List (Instr × Nat × Nat × Nat × Nat) := [((.invokevirtual 152), 3, 13, 6, 224), ((.invokevirtual 1), 3, 8, 1, 186), ((.invokevirtual 117), 3, 13, 1, 225), ((.invokevirtual 186), 3, 13, 5, 237), ((.invokevirtual 173), 3, 8, 2, 189), ((.invokevirtual 194), 3, 13, 3, 226), ((.invokevirtual 198), 3, 13, 2, 239), ((.invokevirtual 205), 3, 13, 2, 240), ((.invokevirtual 158), 3, 13, 2, 228), ((.invokevirtual 228), 3, 13, 6, 231), ((.invokevirtual 236), 3, 13, 2, 242)]
theorem clv_104_0 : (fun e : Instr × Nat × Nat × Nat × Nat => CS RJ4 e.1 e.2.1 e.2.2.1 e.2.2.2.1 (mth e.2.2.2.2)) (((.invokevirtual 152), 3, 13, 6, 224)) := CS.U (i := 12) (owner := "java/util/HashMap") (x := ⟨"java/util/HashMap", "putVal", "(ILjava/lang/Object;Ljava/lang/Object;ZZ)Ljava/lang/Object;"⟩) mk_J4_putVal ⟨by decide, Or.inl rfl, rfl⟩ rfl q1006 q1008 q1007 q1009 (by decide +kernel) (by decide +kernel)
theorem clv_104_1 : (fun e : Instr × Nat × Nat × Nat × Nat => CS RJ4 e.1 e.2.1 e.2.2.1 e.2.2.2.1 (mth e.2.2.2.2)) (((.invokevirtual 1), 3, 8, 1, 186)) := CS.A (i := 7) (owner := "java/lang/Object") (x := ⟨"java/lang/Object", "hashCode", "()I"⟩) mk_X7_hashCode ⟨by decide, Or.inl rfl, rfl⟩ q915 q917 q914 q920 q919 (by decide +kernel) (by decide +kernel)
theorem clv_104_2 : (fun e : Instr × Nat × Nat × Nat × Nat => CS RJ4 e.1 e.2.1 e.2.2.1 e.2.2.2.1 (mth e.2.2.2.2)) (((.invokevirtual 117), 3, 13, 1, 225)) := CS.U (i := 12) (owner := "java/util/HashMap") (x := ⟨"java/util/HashMap", "resize", "()[Ljava/util/HashMap$Node;"⟩) mk_J4_resize ⟨by decide, Or.inl rfl, rfl⟩ rfl q1011 q1013 q1012 q1014 (by decide +kernel) (by decide +kernel)
theorem clv_104_3 : (fun e : Instr × Nat × Nat × Nat × Nat => CS RJ4 e.1 e.2.1 e.2.2.1 e.2.2.2.1 (mth e.2.2.2.2)) (((.invokevirtual 186), 3, 13, 5, 237)) := CS.A (i := 12) (owner := "java/util/HashMap") (x := ⟨"java/util/HashMap", "newNode", "(ILjava/lang/Object;Ljava/lang/Object;Ljava/util/HashMap$Node;)Ljava/util/HashMap$Node;"⟩) mk_J5_newNode ⟨by decide, Or.inl rfl, rfl⟩ q1378 q1380 q1388 q1382 q1381 (by decide +kernel) (by decide +kernel)
theorem clv_104_4 : (fun e : Instr × Nat × Nat × Nat × Nat => CS RJ4 e.1 e.2.1 e.2.2.1 e.2.2.2.1 (mth e.2.2.2.2)) (((.invokevirtual 173), 3, 8, 2, 189)) := CS.O (i := 7) (owner := "java/lang/Object") (x := ⟨"java/lang/Object", "equals", "(Ljava/lang/Object;)Z"⟩) mk_X7_equals ⟨by decide, Or.inl rfl, rfl⟩ q1390 q1392 q1391 q1422 q1395 q1394 (by decide +kernel) (by decide +kernel)
theorem clv_104_5 : (fun e : Instr × Nat × Nat × Nat × Nat => CS RJ4 e.1 e.2.1 e.2.2.1 e.2.2.2.1 (mth e.2.2.2.2)) (((.invokevirtual 194), 3, 13, 3, 226)) := CS.U (i := 12) (owner := "java/util/HashMap") (x := ⟨"java/util/HashMap", "treeifyBin", "([Ljava/util/HashMap$Node;I)V"⟩) mk_J4_treeifyBin ⟨by decide, Or.inl rfl, rfl⟩ rfl q1472 q1474 q1473 q1475 (by decide +kernel) (by decide +kernel)
theorem clv_104_6 : (fun e : Instr × Nat × Nat × Nat × Nat => CS RJ4 e.1 e.2.1 e.2.2.1 e.2.2.2.1 (mth e.2.2.2.2)) (((.invokevirtual 198), 3, 13, 2, 239)) := CS.A (i := 12) (owner := "java/util/HashMap") (x := ⟨"java/util/HashMap", "afterNodeAccess", "(Ljava/util/HashMap$Node;)V"⟩) mk_J5_afterNodeAccess ⟨by decide, Or.inl rfl, rfl⟩ q1485 q1487 q1491 q1489 q1488 (by decide +kernel) (by decide +kernel)
theorem clv_104_7 : (fun e : Instr × Nat × Nat × Nat × Nat => CS RJ4 e.1 e.2.1 e.2.2.1 e.2.2.2.1 (mth e.2.2.2.2)) (((.invokevirtual 205), 3, 13, 2, 240)) := CS.A (i := 12) (owner := "java/util/HashMap") (x := ⟨"java/util/HashMap", "afterNodeInsertion", "(Z)V"⟩) mk_J5_afterNodeInsertion ⟨by decide, Or.inl rfl, rfl⟩ q1492 q1494 q1502 q1496 q1495 (by decide +kernel) (by decide +kernel)
theorem clv_104_8 : (fun e : Instr × Nat × Nat × Nat × Nat => CS RJ4 e.1 e.2.1 e.2.2.1 e.2.2.2.1 (mth e.2.2.2.2)) (((.invokevirtual 158), 3, 13, 2, 228)) := CS.U (i := 12) (owner := "java/util/HashMap") (x := ⟨"java/util/HashMap", "getNode", "(Ljava/lang/Object;)Ljava/util/HashMap$Node;"⟩) mk_J4_getNode ⟨by decide, Or.inl rfl, rfl⟩ rfl q1687 q1689 q1688 q1690 (by decide +kernel) (by decide +kernel)
theorem clv_104_9 : (fun e : Instr × Nat × Nat × Nat × Nat => CS RJ4 e.1 e.2.1 e.2.2.1 e.2.2.2.1 (mth e.2.2.2.2)) (((.invokevirtual 228), 3, 13, 6, 231)) := CS.U (i := 12) (owner := "java/util/HashMap") (x := ⟨"java/util/HashMap", "removeNode", "(ILjava/lang/Object;Ljava/lang/Object;ZZ)Ljava/util/HashMap$Node;"⟩) mk_J4_removeNode ⟨by decide, Or.inl rfl, rfl⟩ rfl q2202 q2204 q2203 q2205 (by decide +kernel) (by decide +kernel)
theorem clv_104_10 : (fun e : Instr × Nat × Nat × Nat × Nat => CS RJ4 e.1 e.2.1 e.2.2.1 e.2.2.2.1 (mth e.2.2.2.2)) (((.invokevirtual 236), 3, 13, 2, 242)) := CS.A (i := 12) (owner := "java/util/HashMap") (x := ⟨"java/util/HashMap", "afterNodeRemoval", "(Ljava/util/HashMap$Node;)V"⟩) mk_J5_afterNodeRemoval ⟨by decide, Or.inl rfl, rfl⟩ q2214 q2216 q2220 q2218 q2217 (by decide +kernel) (by decide +kernel)
theorem clv_104_ok : ∀ e ∈ clv_104, CS RJ4 e.1 e.2.1 e.2.2.1 e.2.2.2.1 (mth e.2.2.2.2) := List.forall_mem_cons.mpr ⟨clv_104_0, List.forall_mem_cons.mpr ⟨clv_104_1, List.forall_mem_cons.mpr ⟨clv_104_2, List.forall_mem_cons.mpr ⟨clv_104_3, List.forall_mem_cons.mpr ⟨clv_104_4, List.forall_mem_cons.mpr ⟨clv_104_5, List.forall_mem_cons.mpr ⟨clv_104_6, List.forall_mem_cons.mpr ⟨clv_104_7, List.forall_mem_cons.mpr ⟨clv_104_8, List.forall_mem_cons.mpr ⟨clv_104_9, List.forall_mem_cons.mpr ⟨clv_104_10, fun _ h => absurd h List.not_mem_nil⟩⟩⟩⟩⟩⟩⟩⟩⟩⟩⟩
def klk_104 : List (Nat × Nat) := []
theorem klk_104_ok : ∀ e ∈ klk_104, CG RJ4 e.1 e.2 := fun _ h => absurd h List.not_mem_nil
def ilk_104 : List (Nat × Nat) := []
theorem ilk_104_ok : ∀ e ∈ ilk_104, CG RJ4 e.1 e.2 := fun _ h => absurd h List.not_mem_nil
def slk_104 : List (Nat × Nat) := []
theorem slk_104_ok : ∀ e ∈ slk_104, GS RJ4 e.1 e.2 := fun _ h => absurd h List.not_mem_nil
def alk_104 : List (Nat × Nat) := [(163, 4)]
theorem alk_104_0 : (fun e : Nat × Nat => AG RJ4 e.1 e.2) ((163, 4)) := ⟨"java/util/HashMap$Node", by decide, rfl, q1018, q1019⟩
theorem alk_104_ok : ∀ e ∈ alk_104, AG RJ4 e.1 e.2 := List.forall_mem_cons.mpr ⟨alk_104_0, fun _ h => absurd h List.not_mem_nil⟩
def dlk_104 : List (Nat × Int) := [(42, 1073741824), (209, 2147483647)]
theorem dlk_104_0 : (fun e : Nat × Int => Cond.constant RJ4 e.1 (iI e.2) ∈ lw_all) ((42, 1073741824)) := q622
theorem dlk_104_1 : (fun e : Nat × Int => Cond.constant RJ4 e.1 (iI e.2) ∈ lw_all) ((209, 2147483647)) := q1016
theorem dlk_104_ok : ∀ e ∈ dlk_104, Cond.constant RJ4 e.1 (iI e.2) ∈ lw_all := List.forall_mem_cons.mpr ⟨dlk_104_0, List.forall_mem_cons.mpr ⟨dlk_104_1, fun _ h => absurd h List.not_mem_nil⟩⟩
def d2k_104 : List (Nat × Int) := []
theorem d2k_104_ok : ∀ e ∈ d2k_104, Cond.constantLong RJ4 e.1 (lI e.2) ∈ lw_all := fun _ h => absurd h List.not_mem_nil
def fck_104 : List (Nat × UInt32) := [(92, 1061158912), (210, 1317011456)]
theorem fck_104_0 : (fun e : Nat × UInt32 => Cond.constantFloat RJ4 e.1 e.2 ∈ lw_all) ((92, 1061158912)) := q228
theorem fck_104_1 : (fun e : Nat × UInt32 => Cond.constantFloat RJ4 e.1 e.2 ∈ lw_all) ((210, 1317011456)) := q1017
theorem fck_104_ok : ∀ e ∈ fck_104, Cond.constantFloat RJ4 e.1 e.2 ∈ lw_all := List.forall_mem_cons.mpr ⟨fck_104_0, List.forall_mem_cons.mpr ⟨fck_104_1, fun _ h => absurd h List.not_mem_nil⟩⟩
def flk_105 : List (Nat × Nat × Nat) := [(117, 13, 6), (1, 13, 11), (7, 13, 8), (11, 13, 9), (64, 13, 10), (19, 24, 4), (14, 24, 5), (68, 13, 3), (39, 24, 1), (107, 24, 2)]
theorem flk_105_0 : (fun e : Nat × Nat × Nat => FG RJ5 e.1 e.2.1 e.2.2) ((117, 13, 6)) := FG.mk' (i := 12) (k := 6) (by decide) (by decide) rfl (by decide) (Or.inl q248) (Or.inr q249) (Or.inl rfl)
theorem flk_105_1 : (fun e : Nat × Nat × Nat => FG RJ5 e.1 e.2.1 e.2.2) ((1, 13, 11)) := FG.mk' (i := 12) (k := 11) (by decide) (by decide) rfl (by decide) (Or.inl q234) (Or.inl rfl) (Or.inl rfl)
theorem flk_105_2 : (fun e : Nat × Nat × Nat => FG RJ5 e.1 e.2.1 e.2.2) ((7, 13, 8)) := FG.mk' (i := 12) (k := 8) (by decide) (by decide) rfl (by decide) (Or.inl q229) (Or.inl rfl) (Or.inl rfl)
theorem flk_105_3 : (fun e : Nat × Nat × Nat => FG RJ5 e.1 e.2.1 e.2.2) ((11, 13, 9)) := FG.mk' (i := 12) (k := 9) (by decide) (by decide) rfl (by decide) (Or.inl q232) (Or.inl rfl) (Or.inl rfl)
theorem flk_105_4 : (fun e : Nat × Nat × Nat => FG RJ5 e.1 e.2.1 e.2.2) ((64, 13, 10)) := FG.mk' (i := 12) (k := 10) (by decide) (by decide) rfl (by decide) (Or.inl q233) (Or.inl rfl) (Or.inl rfl)
theorem flk_105_5 : (fun e : Nat × Nat × Nat => FG RJ5 e.1 e.2.1 e.2.2) ((19, 24, 4)) := FG.mk' (i := 23) (k := 4) (by decide) (by decide) rfl (by decide) (Or.inl q1045) (Or.inl rfl) (Or.inl rfl)
theorem flk_105_6 : (fun e : Nat × Nat × Nat => FG RJ5 e.1 e.2.1 e.2.2) ((14, 24, 5)) := FG.mk' (i := 23) (k := 5) (by decide) (by decide) rfl (by decide) (Or.inl q1047) (Or.inl rfl) (Or.inl rfl)
theorem flk_105_7 : (fun e : Nat × Nat × Nat => FG RJ5 e.1 e.2.1 e.2.2) ((68, 13, 3)) := FG.mk' (i := 12) (k := 3) (by decide) (by decide) rfl (by decide) (Or.inl q242) (Or.inr q241) (Or.inl rfl)
theorem flk_105_8 : (fun e : Nat × Nat × Nat => FG RJ5 e.1 e.2.1 e.2.2) ((39, 24, 1)) := FG.mk' (i := 23) (k := 1) (by decide) (by decide) rfl (by decide) (Or.inl q1059) (Or.inr q1060) (Or.inl rfl)
theorem flk_105_9 : (fun e : Nat × Nat × Nat => FG RJ5 e.1 e.2.1 e.2.2) ((107, 24, 2)) := FG.mk' (i := 23) (k := 2) (by decide) (by decide) rfl (by decide) (Or.inl q1066) (Or.inl rfl) (Or.inl rfl)
theorem flk_105_ok : ∀ e ∈ flk_105, FG RJ5 e.1 e.2.1 e.2.2 := List.forall_mem_cons.mpr ⟨flk_105_0, List.forall_mem_cons.mpr ⟨flk_105_1, List.forall_mem_cons.mpr ⟨flk_105_2, List.forall_mem_cons.mpr ⟨flk_105_3, List.forall_mem_cons.mpr ⟨flk_105_4, List.forall_mem_cons.mpr ⟨flk_105_5, List.forall_mem_cons.mpr ⟨flk_105_6, List.forall_mem_cons.mpr ⟨flk_105_7, List.forall_mem_cons.mpr ⟨flk_105_8, List.forall_mem_cons.mpr ⟨flk_105_9, fun _ h => absurd h List.not_mem_nil⟩⟩⟩⟩⟩⟩⟩⟩⟩⟩
def plk_105 : List (Nat × Nat × Nat × FieldType × Bool) := [(1, 13, 11, tyJ5 11, false), (64, 13, 10, tyJ5 10, true), (117, 13, 6, tyJ5 6, false), (7, 13, 8, tyJ5 8, false), (11, 13, 9, tyJ5 9, false), (14, 24, 5, tyJ32 5, false), (19, 24, 4, tyJ32 4, false), (68, 13, 3, tyJ5 3, false)]
theorem plk_105_0 : (fun e : Nat × Nat × Nat × FieldType × Bool => PG RJ5 e.1 e.2.1 e.2.2.1 e.2.2.2.1 e.2.2.2.2) ((1, 13, 11, tyJ5 11, false)) := PG.mk' (i := 12) (k := 11) (by decide) (by decide) rfl (by decide) (Or.inl q234) (Or.inl rfl) rfl rfl (fun h => by cases h)
theorem plk_105_1 : (fun e : Nat × Nat × Nat × FieldType × Bool => PG RJ5 e.1 e.2.1 e.2.2.1 e.2.2.2.1 e.2.2.2.2) ((64, 13, 10, tyJ5 10, true)) := PG.mk' (i := 12) (k := 10) (by decide) (by decide) rfl (by decide) (Or.inl q233) (Or.inl rfl) rfl rfl (fun _ => rfl)
theorem plk_105_2 : (fun e : Nat × Nat × Nat × FieldType × Bool => PG RJ5 e.1 e.2.1 e.2.2.1 e.2.2.2.1 e.2.2.2.2) ((117, 13, 6, tyJ5 6, false)) := PG.mk' (i := 12) (k := 6) (by decide) (by decide) rfl (by decide) (Or.inl q248) (Or.inr q249) rfl rfl (fun h => by cases h)
theorem plk_105_3 : (fun e : Nat × Nat × Nat × FieldType × Bool => PG RJ5 e.1 e.2.1 e.2.2.1 e.2.2.2.1 e.2.2.2.2) ((7, 13, 8, tyJ5 8, false)) := PG.mk' (i := 12) (k := 8) (by decide) (by decide) rfl (by decide) (Or.inl q229) (Or.inl rfl) rfl rfl (fun h => by cases h)
theorem plk_105_4 : (fun e : Nat × Nat × Nat × FieldType × Bool => PG RJ5 e.1 e.2.1 e.2.2.1 e.2.2.2.1 e.2.2.2.2) ((11, 13, 9, tyJ5 9, false)) := PG.mk' (i := 12) (k := 9) (by decide) (by decide) rfl (by decide) (Or.inl q232) (Or.inl rfl) rfl rfl (fun h => by cases h)
theorem plk_105_5 : (fun e : Nat × Nat × Nat × FieldType × Bool => PG RJ5 e.1 e.2.1 e.2.2.1 e.2.2.2.1 e.2.2.2.2) ((14, 24, 5, tyJ32 5, false)) := PG.mk' (i := 23) (k := 5) (by decide) (by decide) rfl (by decide) (Or.inl q1047) (Or.inl rfl) rfl rfl (fun h => by cases h)
theorem plk_105_6 : (fun e : Nat × Nat × Nat × FieldType × Bool => PG RJ5 e.1 e.2.1 e.2.2.1 e.2.2.2.1 e.2.2.2.2) ((19, 24, 4, tyJ32 4, false)) := PG.mk' (i := 23) (k := 4) (by decide) (by decide) rfl (by decide) (Or.inl q1045) (Or.inl rfl) rfl rfl (fun h => by cases h)
theorem plk_105_7 : (fun e : Nat × Nat × Nat × FieldType × Bool => PG RJ5 e.1 e.2.1 e.2.2.1 e.2.2.2.1 e.2.2.2.2) ((68, 13, 3, tyJ5 3, false)) := PG.mk' (i := 12) (k := 3) (by decide) (by decide) rfl (by decide) (Or.inl q242) (Or.inr q241) rfl rfl (fun h => by cases h)
theorem plk_105_ok : ∀ e ∈ plk_105, PG RJ5 e.1 e.2.1 e.2.2.1 e.2.2.2.1 e.2.2.2.2 := List.forall_mem_cons.mpr ⟨plk_105_0, List.forall_mem_cons.mpr ⟨plk_105_1, List.forall_mem_cons.mpr ⟨plk_105_2, List.forall_mem_cons.mpr ⟨plk_105_3, List.forall_mem_cons.mpr ⟨plk_105_4, List.forall_mem_cons.mpr ⟨plk_105_5, List.forall_mem_cons.mpr ⟨plk_105_6, List.forall_mem_cons.mpr ⟨plk_105_7, fun _ h => absurd h List.not_mem_nil⟩⟩⟩⟩⟩⟩⟩⟩
def nlk_105 : List (Nat × Nat) := [(121, 21), (15, 23)]
theorem nlk_105_0 : (fun e : Nat × Nat => NG RJ5 e.1 e.2) ((121, 21)) := ⟨by decide, by decide, _, rfl, q805, q806, q129⟩
theorem nlk_105_1 : (fun e : Nat × Nat => NG RJ5 e.1 e.2) ((15, 23)) := ⟨by decide, by decide, _, rfl, q1036, q1037, q136⟩
theorem nlk_105_ok : ∀ e ∈ nlk_105, NG RJ5 e.1 e.2 := List.forall_mem_cons.mpr ⟨nlk_105_0, List.forall_mem_cons.mpr ⟨nlk_105_1, fun _ h => absurd h List.not_mem_nil⟩⟩
def cls_105 : List (Nat × Nat × Nat) := []
theorem cls_105_ok : ∀ e ∈ cls_105, CS RJ5 (.invokestatic e.1) 3 0 e.2.1 (mth e.2.2) := fun _ h => absurd h List.not_mem_nil
def cli_105 : List (Nat × Nat × Nat) := [(87, 1, 219), (81, 3, 220), (123, 3, 319), (28, 5, 333)]
theorem cli_105_0 : (fun e : Nat × Nat × Nat => ∀ tag, tag ≠ 0 → CS RJ5 (.invokespecial e.1) 3 tag e.2.1 (mth e.2.2)) ((87, 1, 219)) := fun tag ht => CS.I mk_J4_init q221 q222 rfl rfl ht (by decide +kernel) (by decide +kernel)
theorem cli_105_1 : (fun e : Nat × Nat × Nat => ∀ tag, tag ≠ 0 → CS RJ5 (.invokespecial e.1) 3 tag e.2.1 (mth e.2.2)) ((81, 3, 220)) := fun tag ht => CS.I mk_J4_init_2 q619 q620 rfl rfl ht (by decide +kernel) (by decide +kernel)
theorem cli_105_2 : (fun e : Nat × Nat × Nat => ∀ tag, tag ≠ 0 → CS RJ5 (.invokespecial e.1) 3 tag e.2.1 (mth e.2.2)) ((123, 3, 319)) := fun tag ht => CS.I mk_J25_init q807 q808 rfl rfl ht (by decide +kernel) (by decide +kernel)
theorem cli_105_3 : (fun e : Nat × Nat × Nat => ∀ tag, tag ≠ 0 → CS RJ5 (.invokespecial e.1) 3 tag e.2.1 (mth e.2.2)) ((28, 5, 333)) := fun tag ht => CS.I mk_J32_init q1038 q1039 rfl rfl ht (by decide +kernel) (by decide +kernel)
theorem cli_105_ok : ∀ e ∈ cli_105, ∀ tag, tag ≠ 0 → CS RJ5 (.invokespecial e.1) 3 tag e.2.1 (mth e.2.2) := List.forall_mem_cons.mpr ⟨cli_105_0, List.forall_mem_cons.mpr ⟨cli_105_1, List.forall_mem_cons.mpr ⟨cli_105_2, List.forall_mem_cons.mpr ⟨cli_105_3, fun _ h => absurd h List.not_mem_nil⟩⟩⟩⟩
def clv_105 : List (Instr × Nat × Nat × Nat × Nat) := [((.invokevirtual 113), 3, 13, 1, 236), ((.invokevirtual 32), 3, 13, 2, 238), ((.invokevirtual 53), 3, 13, 2, 241), ((.invokespecial 110), 3, 13, 1, 232), ((.invokevirtual 99), 3, 13, 2, 228), ((.invokevirtual 103), 3, 13, 2, 239)]
theorem clv_105_0 : (fun e : Instr × Nat × Nat × Nat × Nat => CS RJ5 e.1 e.2.1 e.2.2.1 e.2.2.2.1 (mth e.2.2.2.2)) (((.invokevirtual 113), 3, 13, 1, 236)) := CS.V (i := 12) mk_J5_sequencedKeySet ⟨by decide, Or.inl rfl, rfl⟩ rfl q801 q802 q803 (by decide +kernel) (by decide +kernel)
theorem clv_105_1 : (fun e : Instr × Nat × Nat × Nat × Nat => CS RJ5 e.1 e.2.1 e.2.2.1 e.2.2.2.1 (mth e.2.2.2.2)) (((.invokevirtual 32), 3, 13, 2, 238)) := CS.V (i := 12) mk_J5_linkNodeAtEnd ⟨by decide, Or.inl rfl, rfl⟩ rfl q1384 q1386 qs2 (by decide +kernel) (by decide +kernel)
theorem clv_105_2 : (fun e : Instr × Nat × Nat × Nat × Nat => CS RJ5 e.1 e.2.1 e.2.2.1 e.2.2.2.1 (mth e.2.2.2.2)) (((.invokevirtual 53), 3, 13, 2, 241)) := CS.V (i := 12) mk_J5_removeEldestEntry ⟨by decide, Or.inl rfl, rfl⟩ rfl q1498 q1499 q1500 (by decide +kernel) (by decide +kernel)
theorem clv_105_3 : (fun e : Instr × Nat × Nat × Nat × Nat => CS RJ5 e.1 e.2.1 e.2.2.1 e.2.2.2.1 (mth e.2.2.2.2)) (((.invokespecial 110), 3, 13, 1, 232)) := CS.SU (i := 12) mk_J4_clear ⟨by decide, Or.inl rfl, rfl⟩ (by decide) q2233 q2229 q276 q2228 (by decide +kernel) (by decide +kernel)
theorem clv_105_4 : (fun e : Instr × Nat × Nat × Nat × Nat => CS RJ5 e.1 e.2.1 e.2.2.1 e.2.2.2.1 (mth e.2.2.2.2)) (((.invokevirtual 99), 3, 13, 2, 228)) := CS.U (i := 12) (owner := "java/util/HashMap") (x := ⟨"java/util/LinkedHashMap", "getNode", "(Ljava/lang/Object;)Ljava/util/HashMap$Node;"⟩) mk_J4_getNode ⟨by decide, Or.inl rfl, rfl⟩ rfl q2512 q2513 q1688 q2515 (by decide +kernel) (by decide +kernel)
theorem clv_105_5 : (fun e : Instr × Nat × Nat × Nat × Nat => CS RJ5 e.1 e.2.1 e.2.2.1 e.2.2.2.1 (mth e.2.2.2.2)) (((.invokevirtual 103), 3, 13, 2, 239)) := CS.V (i := 12) mk_J5_afterNodeAccess ⟨by decide, Or.inl rfl, rfl⟩ rfl q2516 q1489 q3159 (by decide +kernel) (by decide +kernel)
theorem clv_105_ok : ∀ e ∈ clv_105, CS RJ5 e.1 e.2.1 e.2.2.1 e.2.2.2.1 (mth e.2.2.2.2) := List.forall_mem_cons.mpr ⟨clv_105_0, List.forall_mem_cons.mpr ⟨clv_105_1, List.forall_mem_cons.mpr ⟨clv_105_2, List.forall_mem_cons.mpr ⟨clv_105_3, List.forall_mem_cons.mpr ⟨clv_105_4, List.forall_mem_cons.mpr ⟨clv_105_5, fun _ h => absurd h List.not_mem_nil⟩⟩⟩⟩⟩⟩
def klk_105 : List (Nat × Nat) := [(126, 19), (126, 22), (15, 24)]
theorem klk_105_0 : (fun e : Nat × Nat => CG RJ5 e.1 e.2) ((126, 19)) := ⟨18, (RJ15, TJ15, 1), _, by decide, Or.inl rfl, rfl, q818, Or.inr q3169⟩
theorem klk_105_1 : (fun e : Nat × Nat => CG RJ5 e.1 e.2) ((126, 22)) := ⟨21, (RJ25, TJ25, 2), _, by decide, Or.inl rfl, rfl, q818, Or.inr q3168⟩
theorem klk_105_2 : (fun e : Nat × Nat => CG RJ5 e.1 e.2) ((15, 24)) := ⟨23, (RJ32, TJ32, 6), _, by decide, Or.inl rfl, rfl, q1036, Or.inl ⟨rfl, by decide⟩⟩
theorem klk_105_ok : ∀ e ∈ klk_105, CG RJ5 e.1 e.2 := List.forall_mem_cons.mpr ⟨klk_105_0, List.forall_mem_cons.mpr ⟨klk_105_1, List.forall_mem_cons.mpr ⟨klk_105_2, fun _ h => absurd h List.not_mem_nil⟩⟩⟩
def ilk_105 : List (Nat × Nat) := []
theorem ilk_105_ok : ∀ e ∈ ilk_105, CG RJ5 e.1 e.2 := fun _ h => absurd h List.not_mem_nil
def slk_105 : List (Nat × Nat) := []
theorem slk_105_ok : ∀ e ∈ slk_105, GS RJ5 e.1 e.2 := fun _ h => absurd h List.not_mem_nil
def alk_105 : List (Nat × Nat) := []
theorem alk_105_ok : ∀ e ∈ alk_105, AG RJ5 e.1 e.2 := fun _ h => absurd h List.not_mem_nil
def dlk_105 : List (Nat × Int) := []
theorem dlk_105_ok : ∀ e ∈ dlk_105, Cond.constant RJ5 e.1 (iI e.2) ∈ lw_all := fun _ h => absurd h List.not_mem_nil
def d2k_105 : List (Nat × Int) := []
theorem d2k_105_ok : ∀ e ∈ d2k_105, Cond.constantLong RJ5 e.1 (lI e.2) ∈ lw_all := fun _ h => absurd h List.not_mem_nil
def fck_105 : List (Nat × UInt32) := []
theorem fck_105_ok : ∀ e ∈ fck_105, Cond.constantFloat RJ5 e.1 e.2 ∈ lw_all := fun _ h => absurd h List.not_mem_nil
def flk_106 : List (Nat × Nat × Nat) := [(24, 14, 1), (20, 14, 2), (3, 14, 0)]
theorem flk_106_0 : (fun e : Nat × Nat × Nat => FG RJ6 e.1 e.2.1 e.2.2) ((24, 14, 1)) := FG.mk' (i := 13) (k := 1) (by decide) (by decide) rfl (by decide) (Or.inl q319) (Or.inl rfl) (Or.inl rfl)
theorem flk_106_1 : (fun e : Nat × Nat × Nat => FG RJ6 e.1 e.2.1 e.2.2) ((20, 14, 2)) := FG.mk' (i := 13) (k := 2) (by decide) (by decide) rfl (by decide) (Or.inl q320) (Or.inl rfl) (Or.inl rfl)
theorem flk_106_2 : (fun e : Nat × Nat × Nat => FG RJ6 e.1 e.2.1 e.2.2) ((3, 14, 0)) := FG.mk' (i := 13) (k := 0) (by decide) (by decide) rfl (by decide) (Or.inl q316) (Or.inl rfl) (Or.inl rfl)
theorem flk_106_ok : ∀ e ∈ flk_106, FG RJ6 e.1 e.2.1 e.2.2 := List.forall_mem_cons.mpr ⟨flk_106_0, List.forall_mem_cons.mpr ⟨flk_106_1, List.forall_mem_cons.mpr ⟨flk_106_2, fun _ h => absurd h List.not_mem_nil⟩⟩⟩
def plk_106 : List (Nat × Nat × Nat × FieldType × Bool) := [(3, 14, 0, tyJ6 0, false), (24, 14, 1, tyJ6 1, false), (20, 14, 2, tyJ6 2, false)]
theorem plk_106_0 : (fun e : Nat × Nat × Nat × FieldType × Bool => PG RJ6 e.1 e.2.1 e.2.2.1 e.2.2.2.1 e.2.2.2.2) ((3, 14, 0, tyJ6 0, false)) := PG.mk' (i := 13) (k := 0) (by decide) (by decide) rfl (by decide) (Or.inl q316) (Or.inl rfl) rfl rfl (fun h => by cases h)
theorem plk_106_1 : (fun e : Nat × Nat × Nat × FieldType × Bool => PG RJ6 e.1 e.2.1 e.2.2.1 e.2.2.2.1 e.2.2.2.2) ((24, 14, 1, tyJ6 1, false)) := PG.mk' (i := 13) (k := 1) (by decide) (by decide) rfl (by decide) (Or.inl q319) (Or.inl rfl) rfl rfl (fun h => by cases h)
theorem plk_106_2 : (fun e : Nat × Nat × Nat × FieldType × Bool => PG RJ6 e.1 e.2.1 e.2.2.1 e.2.2.2.1 e.2.2.2.2) ((20, 14, 2, tyJ6 2, false)) := PG.mk' (i := 13) (k := 2) (by decide) (by decide) rfl (by decide) (Or.inl q320) (Or.inl rfl) rfl rfl (fun h => by cases h)
theorem plk_106_ok : ∀ e ∈ plk_106, PG RJ6 e.1 e.2.1 e.2.2.1 e.2.2.2.1 e.2.2.2.2 := List.forall_mem_cons.mpr ⟨plk_106_0, List.forall_mem_cons.mpr ⟨plk_106_1, List.forall_mem_cons.mpr ⟨plk_106_2, fun _ h => absurd h List.not_mem_nil⟩⟩⟩
def nlk_106 : List (Nat × Nat) := []
theorem nlk_106_ok : ∀ e ∈ nlk_106, NG RJ6 e.1 e.2 := fun _ h => absurd h List.not_mem_nil
def cls_106 : List (Nat × Nat × Nat) := [(103, 2, 249), (74, 2, 247), (127, 3, 251), (68, 2, 256)]
theorem cls_106_0 : (fun e : Nat × Nat × Nat => CS RJ6 (.invokestatic e.1) 3 0 e.2.1 (mth e.2.2)) ((103, 2, 249)) := CS.S mk_J6_elementAt q575 q576 (by decide +kernel) (by decide +kernel)
theorem cls_106_1 : (fun e : Nat × Nat × Nat => CS RJ6 (.invokestatic e.1) 3 0 e.2.1 (mth e.2.2)) ((74, 2, 247)) := CS.S mk_J6_inc q578 q522 (by decide +kernel) (by decide +kernel)
theorem cls_106_2 : (fun e : Nat × Nat × Nat => CS RJ6 (.invokestatic e.1) 3 0 e.2.1 (mth e.2.2)) ((127, 3, 251)) := CS.S mk_J6_sub q707 q708 (by decide +kernel) (by decide +kernel)
theorem cls_106_3 : (fun e : Nat × Nat × Nat => CS RJ6 (.invokestatic e.1) 3 0 e.2.1 (mth e.2.2)) ((68, 2, 256)) := CS.S mk_J6_dec q2538 q2539 (by decide +kernel) (by decide +kernel)
theorem cls_106_ok : ∀ e ∈ cls_106, CS RJ6 (.invokestatic e.1) 3 0 e.2.1 (mth e.2.2) := List.forall_mem_cons.mpr ⟨cls_106_0, List.forall_mem_cons.mpr ⟨cls_106_1, List.forall_mem_cons.mpr ⟨cls_106_2, List.forall_mem_cons.mpr ⟨cls_106_3, fun _ h => absurd h List.not_mem_nil⟩⟩⟩⟩
def cli_106 : List (Nat × Nat × Nat) := [(42, 1, 207)]
theorem cli_106_0 : (fun e : Nat × Nat × Nat => ∀ tag, tag ≠ 0 → CS RJ6 (.invokespecial e.1) 3 tag e.2.1 (mth e.2.2)) ((42, 1, 207)) := fun tag ht => CS.I mk_J0_init q313 q186 rfl rfl ht (by decide +kernel) (by decide +kernel)
theorem cli_106_ok : ∀ e ∈ cli_106, ∀ tag, tag ≠ 0 → CS RJ6 (.invokespecial e.1) 3 tag e.2.1 (mth e.2.2) := List.forall_mem_cons.mpr ⟨cli_106_0, fun _ h => absurd h List.not_mem_nil⟩
def clv_106 : List (Instr × Nat × Nat × Nat × Nat) := [((.invokevirtual 93), 3, 14, 1, 248), ((.invokevirtual 100), 3, 14, 1, 255)]
theorem clv_106_0 : (fun e : Instr × Nat × Nat × Nat × Nat => CS RJ6 e.1 e.2.1 e.2.2.1 e.2.2.2.1 (mth e.2.2.2.2)) (((.invokevirtual 93), 3, 14, 1, 248)) := CS.V (i := 13) mk_J6_pollFirst ⟨by decide, Or.inl rfl, rfl⟩ rfl q571 q572 q573 (by decide +kernel) (by decide +kernel)
theorem clv_106_1 : (fun e : Instr × Nat × Nat × Nat × Nat => CS RJ6 e.1 e.2.1 e.2.2.1 e.2.2.2.1 (mth e.2.2.2.2)) (((.invokevirtual 100), 3, 14, 1, 255)) := CS.V (i := 13) mk_J6_pollLast ⟨by decide, Or.inl rfl, rfl⟩ rfl q2534 q2535 q2536 (by decide +kernel) (by decide +kernel)
theorem clv_106_ok : ∀ e ∈ clv_106, CS RJ6 e.1 e.2.1 e.2.2.1 e.2.2.2.1 (mth e.2.2.2.2) := List.forall_mem_cons.mpr ⟨clv_106_0, List.forall_mem_cons.mpr ⟨clv_106_1, fun _ h => absurd h List.not_mem_nil⟩⟩
def klk_106 : List (Nat × Nat) := []
theorem klk_106_ok : ∀ e ∈ klk_106, CG RJ6 e.1 e.2 := fun _ h => absurd h List.not_mem_nil
def ilk_106 : List (Nat × Nat) := []
theorem ilk_106_ok : ∀ e ∈ ilk_106, CG RJ6 e.1 e.2 := fun _ h => absurd h List.not_mem_nil
def slk_106 : List (Nat × Nat) := []
theorem slk_106_ok : ∀ e ∈ slk_106, GS RJ6 e.1 e.2 := fun _ h => absurd h List.not_mem_nil
def alk_106 : List (Nat × Nat) := [(47, 3)]
theorem alk_106_0 : (fun e : Nat × Nat => AG RJ6 e.1 e.2) ((47, 3)) := ⟨"java/lang/Object", by decide, rfl, q314, q315⟩
theorem alk_106_ok : ∀ e ∈ alk_106, AG RJ6 e.1 e.2 := List.forall_mem_cons.mpr ⟨alk_106_0, fun _ h => absurd h List.not_mem_nil⟩
def dlk_106 : List (Nat × Int) := []
theorem dlk_106_ok : ∀ e ∈ dlk_106, Cond.constant RJ6 e.1 (iI e.2) ∈ lw_all := fun _ h => absurd h List.not_mem_nil
def d2k_106 : List (Nat × Int) := []
theorem d2k_106_ok : ∀ e ∈ d2k_106, Cond.constantLong RJ6 e.1 (lI e.2) ∈ lw_all := fun _ h => absurd h List.not_mem_nil
def fck_106 : List (Nat × UInt32) := []
theorem fck_106_ok : ∀ e ∈ fck_106, Cond.constantFloat RJ6 e.1 e.2 ∈ lw_all := fun _ h => absurd h List.not_mem_nil
def flk_107 : List (Nat × Nat × Nat) := [(22, 15, 1), (79, 15, 3), (15, 15, 0)]
theorem flk_107_0 : (fun e : Nat × Nat × Nat => FG RJ7 e.1 e.2.1 e.2.2) ((22, 15, 1)) := FG.mk' (i := 14) (k := 1) (by decide) (by decide) rfl (by decide) (Or.inl q347) (Or.inl rfl) (Or.inl rfl)
theorem flk_107_1 : (fun e : Nat × Nat × Nat => FG RJ7 e.1 e.2.1 e.2.2) ((79, 15, 3)) := FG.mk' (i := 14) (k := 3) (by decide) (by decide) rfl (by decide) (Or.inl q349) (Or.inl rfl) (Or.inl rfl)
theorem flk_107_2 : (fun e : Nat × Nat × Nat => FG RJ7 e.1 e.2.1 e.2.2) ((15, 15, 0)) := FG.mk' (i := 14) (k := 0) (by decide) (by decide) rfl (by decide) (Or.inl q346) (Or.inl rfl) (Or.inl rfl)
theorem flk_107_ok : ∀ e ∈ flk_107, FG RJ7 e.1 e.2.1 e.2.2 := List.forall_mem_cons.mpr ⟨flk_107_0, List.forall_mem_cons.mpr ⟨flk_107_1, List.forall_mem_cons.mpr ⟨flk_107_2, fun _ h => absurd h List.not_mem_nil⟩⟩⟩
def plk_107 : List (Nat × Nat × Nat × FieldType × Bool) := [(15, 15, 0, tyJ8 0, false), (22, 15, 1, tyJ8 1, false), (79, 15, 3, tyJ8 3, false), (73, 15, 2, tyJ8 2, false)]
theorem plk_107_0 : (fun e : Nat × Nat × Nat × FieldType × Bool => PG RJ7 e.1 e.2.1 e.2.2.1 e.2.2.2.1 e.2.2.2.2) ((15, 15, 0, tyJ8 0, false)) := PG.mk' (i := 14) (k := 0) (by decide) (by decide) rfl (by decide) (Or.inl q346) (Or.inl rfl) rfl rfl (fun h => by cases h)
theorem plk_107_1 : (fun e : Nat × Nat × Nat × FieldType × Bool => PG RJ7 e.1 e.2.1 e.2.2.1 e.2.2.2.1 e.2.2.2.2) ((22, 15, 1, tyJ8 1, false)) := PG.mk' (i := 14) (k := 1) (by decide) (by decide) rfl (by decide) (Or.inl q347) (Or.inl rfl) rfl rfl (fun h => by cases h)
theorem plk_107_2 : (fun e : Nat × Nat × Nat × FieldType × Bool => PG RJ7 e.1 e.2.1 e.2.2.1 e.2.2.2.1 e.2.2.2.2) ((79, 15, 3, tyJ8 3, false)) := PG.mk' (i := 14) (k := 3) (by decide) (by decide) rfl (by decide) (Or.inl q349) (Or.inl rfl) rfl rfl (fun h => by cases h)
theorem plk_107_3 : (fun e : Nat × Nat × Nat × FieldType × Bool => PG RJ7 e.1 e.2.1 e.2.2.1 e.2.2.2.1 e.2.2.2.2) ((73, 15, 2, tyJ8 2, false)) := PG.mk' (i := 14) (k := 2) (by decide) (by decide) rfl (by decide) (Or.inl q348) (Or.inl rfl) rfl rfl (fun h => by cases h)
theorem plk_107_ok : ∀ e ∈ plk_107, PG RJ7 e.1 e.2.1 e.2.2.1 e.2.2.2.1 e.2.2.2.2 := List.forall_mem_cons.mpr ⟨plk_107_0, List.forall_mem_cons.mpr ⟨plk_107_1, List.forall_mem_cons.mpr ⟨plk_107_2, List.forall_mem_cons.mpr ⟨plk_107_3, fun _ h => absurd h List.not_mem_nil⟩⟩⟩⟩
def nlk_107 : List (Nat × Nat) := []
theorem nlk_107_ok : ∀ e ∈ nlk_107, NG RJ7 e.1 e.2 := fun _ h => absurd h List.not_mem_nil
def cls_107 : List (Nat × Nat × Nat) := [(191, 1, 325), (108, 2, 339), (114, 3, 329), (138, 2, 334), (144, 2, 272)]
theorem cls_107_0 : (fun e : Nat × Nat × Nat => CS RJ7 (.invokestatic e.1) 3 0 e.2.1 (mth e.2.2)) ((191, 1, 325)) := CS.S mk_J29_canEncode q2572 q2573 (by decide +kernel) (by decide +kernel)
theorem cls_107_1 : (fun e : Nat × Nat × Nat => CS RJ7 (.invokestatic e.1) 3 0 e.2.1 (mth e.2.2)) ((108, 2, 339)) := CS.S mk_J38_copyOf_3 q2564 q2565 (by decide +kernel) (by decide +kernel)
theorem cls_107_2 : (fun e : Nat × Nat × Nat => CS RJ7 (.invokestatic e.1) 3 0 e.2.1 (mth e.2.2)) ((114, 3, 329)) := CS.S mk_J30_newLength q2562 q1524 (by decide +kernel) (by decide +kernel)
theorem cls_107_3 : (fun e : Nat × Nat × Nat => CS RJ7 (.invokestatic e.1) 3 0 e.2.1 (mth e.2.2)) ((138, 2, 334)) := CS.S mk_J33_min q2683 q1194 (by decide +kernel) (by decide +kernel)
theorem cls_107_4 : (fun e : Nat × Nat × Nat => CS RJ7 (.invokestatic e.1) 3 0 e.2.1 (mth e.2.2)) ((144, 2, 272)) := CS.S mk_J9_checkIndex q2684 q2604 (by decide +kernel) (by decide +kernel)
theorem cls_107_ok : ∀ e ∈ cls_107, CS RJ7 (.invokestatic e.1) 3 0 e.2.1 (mth e.2.2) := List.forall_mem_cons.mpr ⟨cls_107_0, List.forall_mem_cons.mpr ⟨cls_107_1, List.forall_mem_cons.mpr ⟨cls_107_2, List.forall_mem_cons.mpr ⟨cls_107_3, List.forall_mem_cons.mpr ⟨cls_107_4, fun _ h => absurd h List.not_mem_nil⟩⟩⟩⟩⟩
def cli_107 : List (Nat × Nat × Nat) := [(3, 1, 354)]
theorem cli_107_0 : (fun e : Nat × Nat × Nat => ∀ tag, tag ≠ 0 → CS RJ7 (.invokespecial e.1) 3 tag e.2.1 (mth e.2.2)) ((3, 1, 354)) := fun tag ht => CS.I mk_J45_init q336 q163 rfl rfl ht (by decide +kernel) (by decide +kernel)
theorem cli_107_ok : ∀ e ∈ cli_107, ∀ tag, tag ≠ 0 → CS RJ7 (.invokespecial e.1) 3 tag e.2.1 (mth e.2.2) := List.forall_mem_cons.mpr ⟨cli_107_0, fun _ h => absurd h List.not_mem_nil⟩
def clv_107 : List (Instr × Nat × Nat × Nat × Nat) := [((.invokevirtual 100), 3, 15, 2, 261), ((.invokevirtual 83), 3, 15, 1, 258), ((.invokevirtual 104), 3, 15, 2, 262)]
theorem clv_107_0 : (fun e : Instr × Nat × Nat × Nat × Nat => CS RJ7 e.1 e.2.1 e.2.2.1 e.2.2.2.1 (mth e.2.2.2.2)) (((.invokevirtual 100), 3, 15, 2, 261)) := CS.P (i := 14) mk_J7_ensureCapacityInternal ⟨by decide, Or.inl rfl, rfl⟩ q2554 q3162 q2556 List.mem_cons_self (by decide +kernel) (by decide +kernel)
theorem clv_107_1 : (fun e : Instr × Nat × Nat × Nat × Nat => CS RJ7 e.1 e.2.1 e.2.2.1 e.2.2.2.1 (mth e.2.2.2.2)) (((.invokevirtual 83), 3, 15, 1, 258)) := CS.U (i := 14) (owner := "java/lang/AbstractStringBuilder") (x := ⟨"java/lang/AbstractStringBuilder", "isLatin1", "()Z"⟩) mk_J7_isLatin1 ⟨by decide, Or.inl rfl, rfl⟩ rfl q1336 q1338 q1337 q1339 (by decide +kernel) (by decide +kernel)
theorem clv_107_2 : (fun e : Instr × Nat × Nat × Nat × Nat => CS RJ7 e.1 e.2.1 e.2.2.1 e.2.2.2.1 (mth e.2.2.2.2)) (((.invokevirtual 104), 3, 15, 2, 262)) := CS.P (i := 14) mk_J7_newCapacity ⟨by decide, Or.inl rfl, rfl⟩ q2558 q3163 q2560 (List.mem_cons_of_mem _ List.mem_cons_self) (by decide +kernel) (by decide +kernel)
theorem clv_107_ok : ∀ e ∈ clv_107, CS RJ7 e.1 e.2.1 e.2.2.1 e.2.2.2.1 (mth e.2.2.2.2) := List.forall_mem_cons.mpr ⟨clv_107_0, List.forall_mem_cons.mpr ⟨clv_107_1, List.forall_mem_cons.mpr ⟨clv_107_2, fun _ h => absurd h List.not_mem_nil⟩⟩⟩
def klk_107 : List (Nat × Nat) := []
theorem klk_107_ok : ∀ e ∈ klk_107, CG RJ7 e.1 e.2 := fun _ h => absurd h List.not_mem_nil
def ilk_107 : List (Nat × Nat) := []
theorem ilk_107_ok : ∀ e ∈ ilk_107, CG RJ7 e.1 e.2 := fun _ h => absurd h List.not_mem_nil
def slk_107 : List (Nat × Nat) := [(18, 2)]
theorem slk_107_0 : (fun e : Nat × Nat => GS RJ7 e.1 e.2) ((18, 2)) := ⟨_, rfl, "java/lang/String", q337, Or.inl rfl⟩
theorem slk_107_ok : ∀ e ∈ slk_107, GS RJ7 e.1 e.2 := List.forall_mem_cons.mpr ⟨slk_107_0, fun _ h => absurd h List.not_mem_nil⟩
def alk_107 : List (Nat × Nat) := []
theorem alk_107_ok : ∀ e ∈ alk_107, AG RJ7 e.1 e.2 := fun _ h => absurd h List.not_mem_nil
def dlk_107 : List (Nat × Int) := [(39, 2147483647)]
theorem dlk_107_0 : (fun e : Nat × Int => Cond.constant RJ7 e.1 (iI e.2) ∈ lw_all) ((39, 2147483647)) := q2563
theorem dlk_107_ok : ∀ e ∈ dlk_107, Cond.constant RJ7 e.1 (iI e.2) ∈ lw_all := List.forall_mem_cons.mpr ⟨dlk_107_0, fun _ h => absurd h List.not_mem_nil⟩
def d2k_107 : List (Nat × Int) := []
theorem d2k_107_ok : ∀ e ∈ d2k_107, Cond.constantLong RJ7 e.1 (lI e.2) ∈ lw_all := fun _ h => absurd h List.not_mem_nil
def fck_107 : List (Nat × UInt32) := []
theorem fck_107_ok : ∀ e ∈ fck_107, Cond.constantFloat RJ7 e.1 e.2 ∈ lw_all := fun _ h => absurd h List.not_mem_nil
def flk_108 : List (Nat × Nat × Nat) := []
theorem flk_108_ok : ∀ e ∈ flk_108, FG RJ8 e.1 e.2.1 e.2.2 := fun _ h => absurd h List.not_mem_nil
def plk_108 : List (Nat × Nat × Nat × FieldType × Bool) := []
theorem plk_108_ok : ∀ e ∈ plk_108, PG RJ8 e.1 e.2.1 e.2.2.1 e.2.2.2.1 e.2.2.2.2 := fun _ h => absurd h List.not_mem_nil
def nlk_108 : List (Nat × Nat) := []
theorem nlk_108_ok : ∀ e ∈ nlk_108, NG RJ8 e.1 e.2 := fun _ h => absurd h List.not_mem_nil
def cls_108 : List (Nat × Nat × Nat) := []
theorem cls_108_ok : ∀ e ∈ cls_108, CS RJ8 (.invokestatic e.1) 3 0 e.2.1 (mth e.2.2) := fun _ h => absurd h List.not_mem_nil
def cli_108 : List (Nat × Nat × Nat) := [(1, 2, 257)]
theorem cli_108_0 : (fun e : Nat × Nat × Nat => ∀ tag, tag ≠ 0 → CS RJ8 (.invokespecial e.1) 3 tag e.2.1 (mth e.2.2)) ((1, 2, 257)) := fun tag ht => CS.I mk_J7_init q333 q334 rfl rfl ht (by decide +kernel) (by decide +kernel)
theorem cli_108_ok : ∀ e ∈ cli_108, ∀ tag, tag ≠ 0 → CS RJ8 (.invokespecial e.1) 3 tag e.2.1 (mth e.2.2) := List.forall_mem_cons.mpr ⟨cli_108_0, fun _ h => absurd h List.not_mem_nil⟩
def clv_108 : List (Instr × Nat × Nat × Nat × Nat) := [((.invokespecial 343), 3, 15, 1, 259), ((.invokespecial 50), 3, 15, 2, 260), ((.invokespecial 333), 3, 15, 2, 263), ((.invokespecial 329), 3, 15, 2, 264)]
theorem clv_108_0 : (fun e : Instr × Nat × Nat × Nat × Nat => CS RJ8 e.1 e.2.1 e.2.2.1 e.2.2.2.1 (mth e.2.2.2.2)) (((.invokespecial 343), 3, 15, 1, 259)) := CS.SU (i := 14) mk_J7_length ⟨by decide, Or.inl rfl, rfl⟩ (by decide) q2521 q3160 q358 q2522 (by decide +kernel) (by decide +kernel)
theorem clv_108_1 : (fun e : Instr × Nat × Nat × Nat × Nat => CS RJ8 e.1 e.2.1 e.2.2.1 e.2.2.2.1 (mth e.2.2.2.2)) (((.invokespecial 50), 3, 15, 2, 260)) := CS.SU (i := 14) mk_J7_append ⟨by decide, Or.inl rfl, rfl⟩ (by decide) q2551 q3161 q358 q2552 (by decide +kernel) (by decide +kernel)
theorem clv_108_2 : (fun e : Instr × Nat × Nat × Nat × Nat => CS RJ8 e.1 e.2.1 e.2.2.1 e.2.2.2.1 (mth e.2.2.2.2)) (((.invokespecial 333), 3, 15, 2, 263)) := CS.SU (i := 14) mk_J7_setLength ⟨by decide, Or.inl rfl, rfl⟩ (by decide) q2615 q3165 q358 q2616 (by decide +kernel) (by decide +kernel)
theorem clv_108_3 : (fun e : Instr × Nat × Nat × Nat × Nat => CS RJ8 e.1 e.2.1 e.2.2.1 e.2.2.2.1 (mth e.2.2.2.2)) (((.invokespecial 329), 3, 15, 2, 264)) := CS.SU (i := 14) mk_J7_charAt ⟨by decide, Or.inl rfl, rfl⟩ (by decide) q2680 q3166 q358 q2681 (by decide +kernel) (by decide +kernel)
theorem clv_108_ok : ∀ e ∈ clv_108, CS RJ8 e.1 e.2.1 e.2.2.1 e.2.2.2.1 (mth e.2.2.2.2) := List.forall_mem_cons.mpr ⟨clv_108_0, List.forall_mem_cons.mpr ⟨clv_108_1, List.forall_mem_cons.mpr ⟨clv_108_2, List.forall_mem_cons.mpr ⟨clv_108_3, fun _ h => absurd h List.not_mem_nil⟩⟩⟩⟩
def klk_108 : List (Nat × Nat) := []
theorem klk_108_ok : ∀ e ∈ klk_108, CG RJ8 e.1 e.2 := fun _ h => absurd h List.not_mem_nil
def ilk_108 : List (Nat × Nat) := []
theorem ilk_108_ok : ∀ e ∈ ilk_108, CG RJ8 e.1 e.2 := fun _ h => absurd h List.not_mem_nil
def slk_108 : List (Nat × Nat) := []
theorem slk_108_ok : ∀ e ∈ slk_108, GS RJ8 e.1 e.2 := fun _ h => absurd h List.not_mem_nil
def alk_108 : List (Nat × Nat) := []
theorem alk_108_ok : ∀ e ∈ alk_108, AG RJ8 e.1 e.2 := fun _ h => absurd h List.not_mem_nil
def dlk_108 : List (Nat × Int) := []
theorem dlk_108_ok : ∀ e ∈ dlk_108, Cond.constant RJ8 e.1 (iI e.2) ∈ lw_all := fun _ h => absurd h List.not_mem_nil
def d2k_108 : List (Nat × Int) := []
theorem d2k_108_ok : ∀ e ∈ d2k_108, Cond.constantLong RJ8 e.1 (lI e.2) ∈ lw_all := fun _ h => absurd h List.not_mem_nil
def fck_108 : List (Nat × UInt32) := []
theorem fck_108_ok : ∀ e ∈ fck_108, Cond.constantFloat RJ8 e.1 e.2 ∈ lw_all := fun _ h => absurd h List.not_mem_nil
def flk_109 : List (Nat × Nat × Nat) := [(15, 216, 1), (9, 216, 0)]
theorem flk_109_0 : (fun e : Nat × Nat × Nat => FG RJ9 e.1 e.2.1 e.2.2) ((15, 216, 1)) := FG.str (k := 1) (by decide) q3221
theorem flk_109_1 : (fun e : Nat × Nat × Nat => FG RJ9 e.1 e.2.1 e.2.2) ((9, 216, 0)) := FG.str (k := 0) (by decide) q3222
theorem flk_109_ok : ∀ e ∈ flk_109, FG RJ9 e.1 e.2.1 e.2.2 := List.forall_mem_cons.mpr ⟨flk_109_0, List.forall_mem_cons.mpr ⟨flk_109_1, fun _ h => absurd h List.not_mem_nil⟩⟩
def plk_109 : List (Nat × Nat × Nat × FieldType × Bool) := []
theorem plk_109_ok : ∀ e ∈ plk_109, PG RJ9 e.1 e.2.1 e.2.2.1 e.2.2.2.1 e.2.2.2.2 := fun _ h => absurd h List.not_mem_nil
def nlk_109 : List (Nat × Nat) := []
theorem nlk_109_ok : ∀ e ∈ nlk_109, NG RJ9 e.1 e.2 := fun _ h => absurd h List.not_mem_nil
def cls_109 : List (Nat × Nat × Nat) := [(1059, 3, 336), (637, 4, 326)]
theorem cls_109_0 : (fun e : Nat × Nat × Nat => CS RJ9 (.invokestatic e.1) 3 0 e.2.1 (mth e.2.2)) ((1059, 3, 336)) := CS.S mk_J36_checkIndex q2606 q1759 (by decide +kernel) (by decide +kernel)
theorem cls_109_1 : (fun e : Nat × Nat × Nat => CS RJ9 (.invokestatic e.1) 3 0 e.2.1 (mth e.2.2)) ((637, 4, 326)) := CS.S mk_J29_indexOf q2698 q2699 (by decide +kernel) (by decide +kernel)
theorem cls_109_ok : ∀ e ∈ cls_109, CS RJ9 (.invokestatic e.1) 3 0 e.2.1 (mth e.2.2) := List.forall_mem_cons.mpr ⟨cls_109_0, List.forall_mem_cons.mpr ⟨cls_109_1, fun _ h => absurd h List.not_mem_nil⟩⟩
def cli_109 : List (Nat × Nat × Nat) := []
theorem cli_109_ok : ∀ e ∈ cli_109, ∀ tag, tag ≠ 0 → CS RJ9 (.invokespecial e.1) 3 tag e.2.1 (mth e.2.2) := fun _ h => absurd h List.not_mem_nil
def clv_109 : List (Instr × Nat × Nat × Nat × Nat) := [((.invokevirtual 633), 3, 216, 3, 274), ((.invokevirtual 492), 3, 216, 1, 270), ((.invokevirtual 505), 3, 216, 1, 275), ((.invokevirtual 335), 3, 216, 1, 271)]
theorem clv_109_0 : (fun e : Instr × Nat × Nat × Nat × Nat => CS RJ9 e.1 e.2.1 e.2.2.1 e.2.2.2.1 (mth e.2.2.2.2)) (((.invokevirtual 633), 3, 216, 3, 274)) := CS.V (i := 15) mk_J9_indexOf_2 ⟨by decide, Or.inr rfl, rfl⟩ rfl q2690 q2691 q2692 (by decide +kernel) (by decide +kernel)
theorem clv_109_1 : (fun e : Instr × Nat × Nat × Nat × Nat => CS RJ9 e.1 e.2.1 e.2.2.1 e.2.2.2.1 (mth e.2.2.2.2)) (((.invokevirtual 492), 3, 216, 1, 270)) := CS.V (i := 15) mk_J9_isLatin1 ⟨by decide, Or.inr rfl, rfl⟩ rfl q940 q941 q942 (by decide +kernel) (by decide +kernel)
theorem clv_109_2 : (fun e : Instr × Nat × Nat × Nat × Nat => CS RJ9 e.1 e.2.1 e.2.2.1 e.2.2.2.1 (mth e.2.2.2.2)) (((.invokevirtual 505), 3, 216, 1, 275)) := CS.V (i := 15) mk_J9_length ⟨by decide, Or.inr rfl, rfl⟩ rfl q2694 q2695 q2696 (by decide +kernel) (by decide +kernel)
theorem clv_109_3 : (fun e : Instr × Nat × Nat × Nat × Nat => CS RJ9 e.1 e.2.1 e.2.2.1 e.2.2.2.1 (mth e.2.2.2.2)) (((.invokevirtual 335), 3, 216, 1, 271)) := CS.V (i := 15) mk_J9_coder ⟨by decide, Or.inr rfl, rfl⟩ rfl q1183 q1184 q1185 (by decide +kernel) (by decide +kernel)
theorem clv_109_ok : ∀ e ∈ clv_109, CS RJ9 e.1 e.2.1 e.2.2.1 e.2.2.2.1 (mth e.2.2.2.2) := List.forall_mem_cons.mpr ⟨clv_109_0, List.forall_mem_cons.mpr ⟨clv_109_1, List.forall_mem_cons.mpr ⟨clv_109_2, List.forall_mem_cons.mpr ⟨clv_109_3, fun _ h => absurd h List.not_mem_nil⟩⟩⟩⟩
def klk_109 : List (Nat × Nat) := []
theorem klk_109_ok : ∀ e ∈ klk_109, CG RJ9 e.1 e.2 := fun _ h => absurd h List.not_mem_nil
def ilk_109 : List (Nat × Nat) := []
theorem ilk_109_ok : ∀ e ∈ ilk_109, CG RJ9 e.1 e.2 := fun _ h => absurd h List.not_mem_nil
def slk_109 : List (Nat × Nat) := [(38, 2), (1053, 5)]
theorem slk_109_0 : (fun e : Nat × Nat => GS RJ9 e.1 e.2) ((38, 2)) := ⟨_, rfl, "java/lang/String", q944, Or.inl rfl⟩
theorem slk_109_1 : (fun e : Nat × Nat => GS RJ9 e.1 e.2) ((1053, 5)) := ⟨_, rfl, "jdk/internal/util/Preconditions", q1351, Or.inl rfl⟩
theorem slk_109_ok : ∀ e ∈ slk_109, GS RJ9 e.1 e.2 := List.forall_mem_cons.mpr ⟨slk_109_0, List.forall_mem_cons.mpr ⟨slk_109_1, fun _ h => absurd h List.not_mem_nil⟩⟩
def alk_109 : List (Nat × Nat) := []
theorem alk_109_ok : ∀ e ∈ alk_109, AG RJ9 e.1 e.2 := fun _ h => absurd h List.not_mem_nil
def dlk_109 : List (Nat × Int) := []
theorem dlk_109_ok : ∀ e ∈ dlk_109, Cond.constant RJ9 e.1 (iI e.2) ∈ lw_all := fun _ h => absurd h List.not_mem_nil
def d2k_109 : List (Nat × Int) := []
theorem d2k_109_ok : ∀ e ∈ d2k_109, Cond.constantLong RJ9 e.1 (lI e.2) ∈ lw_all := fun _ h => absurd h List.not_mem_nil
def fck_109 : List (Nat × UInt32) := []
theorem fck_109_ok : ∀ e ∈ fck_109, Cond.constantFloat RJ9 e.1 e.2 ∈ lw_all := fun _ h => absurd h List.not_mem_nil
def flk_111 : List (Nat × Nat × Nat) := [(1, 17, 3), (17, 12, 0), (25, 17, 0), (28, 12, 2), (37, 12, 1), (22, 17, 2)]
theorem flk_111_0 : (fun e : Nat × Nat × Nat => FG RJ11 e.1 e.2.1 e.2.2) ((1, 17, 3)) := FG.mk' (i := 16) (k := 3) (by decide) (by decide) rfl (by decide) (Or.inl q455) (Or.inl rfl) (Or.inl rfl)
theorem flk_111_1 : (fun e : Nat × Nat × Nat => FG RJ11 e.1 e.2.1 e.2.2) ((17, 12, 0)) := FG.mk' (i := 11) (k := 0) (by decide) (by decide) rfl (by decide) (Or.inl q196) (Or.inr q197) (Or.inl rfl)
theorem flk_111_2 : (fun e : Nat × Nat × Nat => FG RJ11 e.1 e.2.1 e.2.2) ((25, 17, 0)) := FG.mk' (i := 16) (k := 0) (by decide) (by decide) rfl (by decide) (Or.inl q452) (Or.inl rfl) (Or.inl rfl)
theorem flk_111_3 : (fun e : Nat × Nat × Nat => FG RJ11 e.1 e.2.1 e.2.2) ((28, 12, 2)) := FG.mk' (i := 11) (k := 2) (by decide) (by decide) rfl (by decide) (Or.inr ⟨_, q193⟩) (Or.inl rfl) (Or.inl rfl)
theorem flk_111_4 : (fun e : Nat × Nat × Nat => FG RJ11 e.1 e.2.1 e.2.2) ((37, 12, 1)) := FG.mk' (i := 11) (k := 1) (by decide) (by decide) rfl (by decide) (Or.inl q192) (Or.inl rfl) (Or.inl rfl)
theorem flk_111_5 : (fun e : Nat × Nat × Nat => FG RJ11 e.1 e.2.1 e.2.2) ((22, 17, 2)) := FG.mk' (i := 16) (k := 2) (by decide) (by decide) rfl (by decide) (Or.inl q454) (Or.inl rfl) (Or.inl rfl)
theorem flk_111_ok : ∀ e ∈ flk_111, FG RJ11 e.1 e.2.1 e.2.2 := List.forall_mem_cons.mpr ⟨flk_111_0, List.forall_mem_cons.mpr ⟨flk_111_1, List.forall_mem_cons.mpr ⟨flk_111_2, List.forall_mem_cons.mpr ⟨flk_111_3, List.forall_mem_cons.mpr ⟨flk_111_4, List.forall_mem_cons.mpr ⟨flk_111_5, fun _ h => absurd h List.not_mem_nil⟩⟩⟩⟩⟩⟩
def plk_111 : List (Nat × Nat × Nat × FieldType × Bool) := [(1, 17, 3, tyJ11 3, true), (13, 17, 1, tyJ11 1, false), (22, 17, 2, tyJ11 2, false), (25, 17, 0, tyJ11 0, false)]
theorem plk_111_0 : (fun e : Nat × Nat × Nat × FieldType × Bool => PG RJ11 e.1 e.2.1 e.2.2.1 e.2.2.2.1 e.2.2.2.2) ((1, 17, 3, tyJ11 3, true)) := PG.mk' (i := 16) (k := 3) (by decide) (by decide) rfl (by decide) (Or.inl q455) (Or.inl rfl) rfl rfl (fun _ => rfl)
theorem plk_111_1 : (fun e : Nat × Nat × Nat × FieldType × Bool => PG RJ11 e.1 e.2.1 e.2.2.1 e.2.2.2.1 e.2.2.2.2) ((13, 17, 1, tyJ11 1, false)) := PG.mk' (i := 16) (k := 1) (by decide) (by decide) rfl (by decide) (Or.inl q453) (Or.inl rfl) rfl rfl (fun h => by cases h)
theorem plk_111_2 : (fun e : Nat × Nat × Nat × FieldType × Bool => PG RJ11 e.1 e.2.1 e.2.2.1 e.2.2.2.1 e.2.2.2.2) ((22, 17, 2, tyJ11 2, false)) := PG.mk' (i := 16) (k := 2) (by decide) (by decide) rfl (by decide) (Or.inl q454) (Or.inl rfl) rfl rfl (fun h => by cases h)
theorem plk_111_3 : (fun e : Nat × Nat × Nat × FieldType × Bool => PG RJ11 e.1 e.2.1 e.2.2.1 e.2.2.2.1 e.2.2.2.2) ((25, 17, 0, tyJ11 0, false)) := PG.mk' (i := 16) (k := 0) (by decide) (by decide) rfl (by decide) (Or.inl q452) (Or.inl rfl) rfl rfl (fun h => by cases h)
theorem plk_111_ok : ∀ e ∈ plk_111, PG RJ11 e.1 e.2.1 e.2.2.1 e.2.2.2.1 e.2.2.2.2 := List.forall_mem_cons.mpr ⟨plk_111_0, List.forall_mem_cons.mpr ⟨plk_111_1, List.forall_mem_cons.mpr ⟨plk_111_2, List.forall_mem_cons.mpr ⟨plk_111_3, fun _ h => absurd h List.not_mem_nil⟩⟩⟩⟩
def nlk_111 : List (Nat × Nat) := []
theorem nlk_111_ok : ∀ e ∈ nlk_111, NG RJ11 e.1 e.2 := fun _ h => absurd h List.not_mem_nil
def cls_111 : List (Nat × Nat × Nat) := []
theorem cls_111_ok : ∀ e ∈ cls_111, CS RJ11 (.invokestatic e.1) 3 0 e.2.1 (mth e.2.2) := fun _ h => absurd h List.not_mem_nil
def cli_111 : List (Nat × Nat × Nat) := [(7, 1, 354)]
theorem cli_111_0 : (fun e : Nat × Nat × Nat => ∀ tag, tag ≠ 0 → CS RJ11 (.invokespecial e.1) 3 tag e.2.1 (mth e.2.2)) ((7, 1, 354)) := fun tag ht => CS.I mk_J45_init q451 q163 rfl rfl ht (by decide +kernel) (by decide +kernel)
theorem cli_111_ok : ∀ e ∈ cli_111, ∀ tag, tag ≠ 0 → CS RJ11 (.invokespecial e.1) 3 tag e.2.1 (mth e.2.2) := List.forall_mem_cons.mpr ⟨cli_111_0, fun _ h => absurd h List.not_mem_nil⟩
def clv_111 : List (Instr × Nat × Nat × Nat × Nat) := [((.invokevirtual 31), 3, 17, 1, 279)]
theorem clv_111_0 : (fun e : Instr × Nat × Nat × Nat × Nat => CS RJ11 e.1 e.2.1 e.2.2.1 e.2.2.2.1 (mth e.2.2.2.2)) (((.invokevirtual 31), 3, 17, 1, 279)) := CS.V (i := 16) mk_J11_checkForComodification ⟨by decide, Or.inl rfl, rfl⟩ rfl q529 q530 q531 (by decide +kernel) (by decide +kernel)
theorem clv_111_ok : ∀ e ∈ clv_111, CS RJ11 e.1 e.2.1 e.2.2.1 e.2.2.2.1 (mth e.2.2.2.2) := List.forall_mem_cons.mpr ⟨clv_111_0, fun _ h => absurd h List.not_mem_nil⟩
def klk_111 : List (Nat × Nat) := []
theorem klk_111_ok : ∀ e ∈ klk_111, CG RJ11 e.1 e.2 := fun _ h => absurd h List.not_mem_nil
def ilk_111 : List (Nat × Nat) := []
theorem ilk_111_ok : ∀ e ∈ ilk_111, CG RJ11 e.1 e.2 := fun _ h => absurd h List.not_mem_nil
def slk_111 : List (Nat × Nat) := []
theorem slk_111_ok : ∀ e ∈ slk_111, GS RJ11 e.1 e.2 := fun _ h => absurd h List.not_mem_nil
def alk_111 : List (Nat × Nat) := []
theorem alk_111_ok : ∀ e ∈ alk_111, AG RJ11 e.1 e.2 := fun _ h => absurd h List.not_mem_nil
def dlk_111 : List (Nat × Int) := []
theorem dlk_111_ok : ∀ e ∈ dlk_111, Cond.constant RJ11 e.1 (iI e.2) ∈ lw_all := fun _ h => absurd h List.not_mem_nil
def d2k_111 : List (Nat × Int) := []
theorem d2k_111_ok : ∀ e ∈ d2k_111, Cond.constantLong RJ11 e.1 (lI e.2) ∈ lw_all := fun _ h => absurd h List.not_mem_nil
def fck_111 : List (Nat × UInt32) := []
theorem fck_111_ok : ∀ e ∈ fck_111, Cond.constantFloat RJ11 e.1 e.2 ∈ lw_all := fun _ h => absurd h List.not_mem_nil
def flk_112 : List (Nat × Nat × Nat) := [(114, 25, 3), (111, 25, 2), (124, 25, 4), (101, 18, 3), (16, 18, 2), (105, 25, 0), (58, 25, 1), (13, 18, 5), (7, 18, 4), (290, 25, 5), (233, 18, 1)]
theorem flk_112_0 : (fun e : Nat × Nat × Nat => FG RJ12 e.1 e.2.1 e.2.2) ((114, 25, 3)) := FG.mk' (i := 24) (k := 3) (by decide) (by decide) rfl (by decide) (Or.inl q2001) (Or.inl rfl) (Or.inl rfl)
theorem flk_112_1 : (fun e : Nat × Nat × Nat => FG RJ12 e.1 e.2.1 e.2.2) ((111, 25, 2)) := FG.mk' (i := 24) (k := 2) (by decide) (by decide) rfl (by decide) (Or.inl q2000) (Or.inl rfl) (Or.inl rfl)
theorem flk_112_2 : (fun e : Nat × Nat × Nat => FG RJ12 e.1 e.2.1 e.2.2) ((124, 25, 4)) := FG.mk' (i := 24) (k := 4) (by decide) (by decide) rfl (by decide) (Or.inl q2003) (Or.inl rfl) (Or.inl rfl)
theorem flk_112_3 : (fun e : Nat × Nat × Nat => FG RJ12 e.1 e.2.1 e.2.2) ((101, 18, 3)) := FG.mk' (i := 17) (k := 3) (by decide) (by decide) rfl (by decide) (Or.inl q1903) (Or.inl rfl) (Or.inl rfl)
theorem flk_112_4 : (fun e : Nat × Nat × Nat => FG RJ12 e.1 e.2.1 e.2.2) ((16, 18, 2)) := FG.mk' (i := 17) (k := 2) (by decide) (by decide) rfl (by decide) (Or.inl q1902) (Or.inl rfl) (Or.inl rfl)
theorem flk_112_5 : (fun e : Nat × Nat × Nat => FG RJ12 e.1 e.2.1 e.2.2) ((105, 25, 0)) := FG.mk' (i := 24) (k := 0) (by decide) (by decide) rfl (by decide) (Or.inl q1996) (Or.inl rfl) (Or.inl rfl)
theorem flk_112_6 : (fun e : Nat × Nat × Nat => FG RJ12 e.1 e.2.1 e.2.2) ((58, 25, 1)) := FG.mk' (i := 24) (k := 1) (by decide) (by decide) rfl (by decide) (Or.inl q1999) (Or.inl rfl) (Or.inl rfl)
theorem flk_112_7 : (fun e : Nat × Nat × Nat => FG RJ12 e.1 e.2.1 e.2.2) ((13, 18, 5)) := FG.mk' (i := 17) (k := 5) (by decide) (by decide) rfl (by decide) (Or.inl q1906) (Or.inl rfl) (Or.inl rfl)
theorem flk_112_8 : (fun e : Nat × Nat × Nat => FG RJ12 e.1 e.2.1 e.2.2) ((7, 18, 4)) := FG.mk' (i := 17) (k := 4) (by decide) (by decide) rfl (by decide) (Or.inl q1904) (Or.inl rfl) (Or.inl rfl)
theorem flk_112_9 : (fun e : Nat × Nat × Nat => FG RJ12 e.1 e.2.1 e.2.2) ((290, 25, 5)) := FG.mk' (i := 24) (k := 5) (by decide) (by decide) rfl (by decide) (Or.inl q2005) (Or.inl rfl) (Or.inl rfl)
theorem flk_112_10 : (fun e : Nat × Nat × Nat => FG RJ12 e.1 e.2.1 e.2.2) ((233, 18, 1)) := FG.mk' (i := 17) (k := 1) (by decide) (by decide) rfl (by decide) (Or.inl q250) (Or.inr q251) (Or.inl rfl)
theorem flk_112_ok : ∀ e ∈ flk_112, FG RJ12 e.1 e.2.1 e.2.2 := List.forall_mem_cons.mpr ⟨flk_112_0, List.forall_mem_cons.mpr ⟨flk_112_1, List.forall_mem_cons.mpr ⟨flk_112_2, List.forall_mem_cons.mpr ⟨flk_112_3, List.forall_mem_cons.mpr ⟨flk_112_4, List.forall_mem_cons.mpr ⟨flk_112_5, List.forall_mem_cons.mpr ⟨flk_112_6, List.forall_mem_cons.mpr ⟨flk_112_7, List.forall_mem_cons.mpr ⟨flk_112_8, List.forall_mem_cons.mpr ⟨flk_112_9, List.forall_mem_cons.mpr ⟨flk_112_10, fun _ h => absurd h List.not_mem_nil⟩⟩⟩⟩⟩⟩⟩⟩⟩⟩⟩
def plk_112 : List (Nat × Nat × Nat × FieldType × Bool) := [(7, 18, 4, tyJ12 4, false), (13, 18, 5, tyJ12 5, false), (16, 18, 2, tyJ12 2, true), (58, 25, 1, tyJ40 1, false), (101, 18, 3, tyJ12 3, false), (111, 25, 2, tyJ40 2, false), (114, 25, 3, tyJ40 3, false), (290, 25, 5, tyJ40 5, false), (124, 25, 4, tyJ40 4, false), (233, 18, 1, tyJ12 1, false)]
theorem plk_112_0 : (fun e : Nat × Nat × Nat × FieldType × Bool => PG RJ12 e.1 e.2.1 e.2.2.1 e.2.2.2.1 e.2.2.2.2) ((7, 18, 4, tyJ12 4, false)) := PG.mk' (i := 17) (k := 4) (by decide) (by decide) rfl (by decide) (Or.inl q1904) (Or.inl rfl) rfl rfl (fun h => by cases h)
theorem plk_112_1 : (fun e : Nat × Nat × Nat × FieldType × Bool => PG RJ12 e.1 e.2.1 e.2.2.1 e.2.2.2.1 e.2.2.2.2) ((13, 18, 5, tyJ12 5, false)) := PG.mk' (i := 17) (k := 5) (by decide) (by decide) rfl (by decide) (Or.inl q1906) (Or.inl rfl) rfl rfl (fun h => by cases h)
theorem plk_112_2 : (fun e : Nat × Nat × Nat × FieldType × Bool => PG RJ12 e.1 e.2.1 e.2.2.1 e.2.2.2.1 e.2.2.2.2) ((16, 18, 2, tyJ12 2, true)) := PG.mk' (i := 17) (k := 2) (by decide) (by decide) rfl (by decide) (Or.inl q1902) (Or.inl rfl) rfl rfl (fun _ => rfl)
theorem plk_112_3 : (fun e : Nat × Nat × Nat × FieldType × Bool => PG RJ12 e.1 e.2.1 e.2.2.1 e.2.2.2.1 e.2.2.2.2) ((58, 25, 1, tyJ40 1, false)) := PG.mk' (i := 24) (k := 1) (by decide) (by decide) rfl (by decide) (Or.inl q1999) (Or.inl rfl) rfl rfl (fun h => by cases h)
theorem plk_112_4 : (fun e : Nat × Nat × Nat × FieldType × Bool => PG RJ12 e.1 e.2.1 e.2.2.1 e.2.2.2.1 e.2.2.2.2) ((101, 18, 3, tyJ12 3, false)) := PG.mk' (i := 17) (k := 3) (by decide) (by decide) rfl (by decide) (Or.inl q1903) (Or.inl rfl) rfl rfl (fun h => by cases h)
theorem plk_112_5 : (fun e : Nat × Nat × Nat × FieldType × Bool => PG RJ12 e.1 e.2.1 e.2.2.1 e.2.2.2.1 e.2.2.2.2) ((111, 25, 2, tyJ40 2, false)) := PG.mk' (i := 24) (k := 2) (by decide) (by decide) rfl (by decide) (Or.inl q2000) (Or.inl rfl) rfl rfl (fun h => by cases h)
theorem plk_112_6 : (fun e : Nat × Nat × Nat × FieldType × Bool => PG RJ12 e.1 e.2.1 e.2.2.1 e.2.2.2.1 e.2.2.2.2) ((114, 25, 3, tyJ40 3, false)) := PG.mk' (i := 24) (k := 3) (by decide) (by decide) rfl (by decide) (Or.inl q2001) (Or.inl rfl) rfl rfl (fun h => by cases h)
theorem plk_112_7 : (fun e : Nat × Nat × Nat × FieldType × Bool => PG RJ12 e.1 e.2.1 e.2.2.1 e.2.2.2.1 e.2.2.2.2) ((290, 25, 5, tyJ40 5, false)) := PG.mk' (i := 24) (k := 5) (by decide) (by decide) rfl (by decide) (Or.inl q2005) (Or.inl rfl) rfl rfl (fun h => by cases h)
theorem plk_112_8 : (fun e : Nat × Nat × Nat × FieldType × Bool => PG RJ12 e.1 e.2.1 e.2.2.1 e.2.2.2.1 e.2.2.2.2) ((124, 25, 4, tyJ40 4, false)) := PG.mk' (i := 24) (k := 4) (by decide) (by decide) rfl (by decide) (Or.inl q2003) (Or.inl rfl) rfl rfl (fun h => by cases h)
theorem plk_112_9 : (fun e : Nat × Nat × Nat × FieldType × Bool => PG RJ12 e.1 e.2.1 e.2.2.1 e.2.2.2.1 e.2.2.2.2) ((233, 18, 1, tyJ12 1, false)) := PG.mk' (i := 17) (k := 1) (by decide) (by decide) rfl (by decide) (Or.inl q250) (Or.inr q251) rfl rfl (fun h => by cases h)
theorem plk_112_ok : ∀ e ∈ plk_112, PG RJ12 e.1 e.2.1 e.2.2.1 e.2.2.2.1 e.2.2.2.2 := List.forall_mem_cons.mpr ⟨plk_112_0, List.forall_mem_cons.mpr ⟨plk_112_1, List.forall_mem_cons.mpr ⟨plk_112_2, List.forall_mem_cons.mpr ⟨plk_112_3, List.forall_mem_cons.mpr ⟨plk_112_4, List.forall_mem_cons.mpr ⟨plk_112_5, List.forall_mem_cons.mpr ⟨plk_112_6, List.forall_mem_cons.mpr ⟨plk_112_7, List.forall_mem_cons.mpr ⟨plk_112_8, List.forall_mem_cons.mpr ⟨plk_112_9, fun _ h => absurd h List.not_mem_nil⟩⟩⟩⟩⟩⟩⟩⟩⟩⟩
def nlk_112 : List (Nat × Nat) := [(59, 24), (237, 25)]
theorem nlk_112_0 : (fun e : Nat × Nat => NG RJ12 e.1 e.2) ((59, 24)) := ⟨by decide, by decide, _, rfl, q1989, q1990, q149⟩
theorem nlk_112_1 : (fun e : Nat × Nat => NG RJ12 e.1 e.2) ((237, 25)) := ⟨by decide, by decide, _, rfl, q2058, q2059, q150⟩
theorem nlk_112_ok : ∀ e ∈ nlk_112, NG RJ12 e.1 e.2 := List.forall_mem_cons.mpr ⟨nlk_112_0, List.forall_mem_cons.mpr ⟨nlk_112_1, fun _ h => absurd h List.not_mem_nil⟩⟩
def cls_112 : List (Nat × Nat × Nat) := [(95, 1, 341), (294, 1, 289), (297, 1, 290), (300, 1, 291), (303, 1, 292), (307, 2, 293)]
theorem cls_112_0 : (fun e : Nat × Nat × Nat => CS RJ12 (.invokestatic e.1) 3 0 e.2.1 (mth e.2.2)) ((95, 1, 341)) := CS.S mk_J39_requireNonNull q2019 q2020 (by decide +kernel) (by decide +kernel)
theorem cls_112_1 : (fun e : Nat × Nat × Nat => CS RJ12 (.invokestatic e.1) 3 0 e.2.1 (mth e.2.2)) ((294, 1, 289)) := CS.S mk_J12_parentOf q2030 q2031 (by decide +kernel) (by decide +kernel)
theorem cls_112_2 : (fun e : Nat × Nat × Nat => CS RJ12 (.invokestatic e.1) 3 0 e.2.1 (mth e.2.2)) ((297, 1, 290)) := CS.S mk_J12_leftOf q2033 q2034 (by decide +kernel) (by decide +kernel)
theorem cls_112_3 : (fun e : Nat × Nat × Nat => CS RJ12 (.invokestatic e.1) 3 0 e.2.1 (mth e.2.2)) ((300, 1, 291)) := CS.S mk_J12_rightOf q2036 q2037 (by decide +kernel) (by decide +kernel)
theorem cls_112_4 : (fun e : Nat × Nat × Nat => CS RJ12 (.invokestatic e.1) 3 0 e.2.1 (mth e.2.2)) ((303, 1, 292)) := CS.S mk_J12_colorOf q2039 q2040 (by decide +kernel) (by decide +kernel)
theorem cls_112_5 : (fun e : Nat × Nat × Nat => CS RJ12 (.invokestatic e.1) 3 0 e.2.1 (mth e.2.2)) ((307, 2, 293)) := CS.S mk_J12_setColor q2042 q2043 (by decide +kernel) (by decide +kernel)
theorem cls_112_ok : ∀ e ∈ cls_112, CS RJ12 (.invokestatic e.1) 3 0 e.2.1 (mth e.2.2) := List.forall_mem_cons.mpr ⟨cls_112_0, List.forall_mem_cons.mpr ⟨cls_112_1, List.forall_mem_cons.mpr ⟨cls_112_2, List.forall_mem_cons.mpr ⟨cls_112_3, List.forall_mem_cons.mpr ⟨cls_112_4, List.forall_mem_cons.mpr ⟨cls_112_5, fun _ h => absurd h List.not_mem_nil⟩⟩⟩⟩⟩⟩
def cli_112 : List (Nat × Nat × Nat) := [(1, 1, 218), (167, 4, 342), (239, 2, 344)]
theorem cli_112_0 : (fun e : Nat × Nat × Nat => ∀ tag, tag ≠ 0 → CS RJ12 (.invokespecial e.1) 3 tag e.2.1 (mth e.2.2)) ((1, 1, 218)) := fun tag ht => CS.I mk_J3_init q1901 q225 rfl rfl ht (by decide +kernel) (by decide +kernel)
theorem cli_112_1 : (fun e : Nat × Nat × Nat => ∀ tag, tag ≠ 0 → CS RJ12 (.invokespecial e.1) 3 tag e.2.1 (mth e.2.2)) ((167, 4, 342)) := fun tag ht => CS.I mk_J40_init q1991 q1992 rfl rfl ht (by decide +kernel) (by decide +kernel)
theorem cli_112_2 : (fun e : Nat × Nat × Nat => ∀ tag, tag ≠ 0 → CS RJ12 (.invokespecial e.1) 3 tag e.2.1 (mth e.2.2)) ((239, 2, 344)) := fun tag ht => CS.I mk_J41_init q2060 q2061 rfl rfl ht (by decide +kernel) (by decide +kernel)
theorem cli_112_ok : ∀ e ∈ cli_112, ∀ tag, tag ≠ 0 → CS RJ12 (.invokespecial e.1) 3 tag e.2.1 (mth e.2.2) := List.forall_mem_cons.mpr ⟨cli_112_0, List.forall_mem_cons.mpr ⟨cli_112_1, List.forall_mem_cons.mpr ⟨cli_112_2, fun _ h => absurd h List.not_mem_nil⟩⟩⟩
def clv_112 : List (Instr × Nat × Nat × Nat × Nat) := [((.invokevirtual 127), 3, 18, 4, 284), ((.invokevirtual 135), 3, 18, 3, 285), ((.invokeinterface 117 3), 5, 10, 3, 196), ((.invokeinterface 107 2), 5, 8, 2, 187), ((.invokevirtual 139), 3, 18, 5, 287), ((.invokevirtual 123), 3, 18, 3, 286), ((.invokevirtual 170), 3, 18, 2, 288), ((.invokevirtual 311), 3, 18, 2, 294), ((.invokevirtual 314), 3, 18, 2, 295)]
theorem clv_112_0 : (fun e : Instr × Nat × Nat × Nat × Nat => CS RJ12 e.1 e.2.1 e.2.2.1 e.2.2.2.1 (mth e.2.2.2.2)) (((.invokevirtual 127), 3, 18, 4, 284)) := CS.V (i := 17) mk_J12_put_2 ⟨by decide, Or.inl rfl, rfl⟩ rfl q1948 q1950 qs12 (by decide +kernel) (by decide +kernel)
theorem clv_112_1 : (fun e : Instr × Nat × Nat × Nat × Nat => CS RJ12 e.1 e.2.1 e.2.2.1 e.2.2.2.1 (mth e.2.2.2.2)) (((.invokevirtual 135), 3, 18, 3, 285)) := CS.V (i := 17) mk_J12_addEntryToEmptyMap ⟨by decide, Or.inl rfl, rfl⟩ rfl q1952 q1954 qs13 (by decide +kernel) (by decide +kernel)
theorem clv_112_2 : (fun e : Instr × Nat × Nat × Nat × Nat => CS RJ12 e.1 e.2.1 e.2.2.1 e.2.2.2.1 (mth e.2.2.2.2)) (((.invokeinterface 117 3), 5, 10, 3, 196)) := CS.F (i := 9) (x := ⟨"java/util/Comparator", "compare", "(Ljava/lang/Object;Ljava/lang/Object;)I"⟩) mk_X9_compare ⟨by decide, Or.inl rfl, rfl⟩ (by decide) q1964 q1970 q1968 q1966 q1965 q1971 q1969 q1967 (by decide +kernel) (by decide +kernel)
theorem clv_112_3 : (fun e : Instr × Nat × Nat × Nat × Nat => CS RJ12 e.1 e.2.1 e.2.2.1 e.2.2.2.1 (mth e.2.2.2.2)) (((.invokeinterface 107 2), 5, 8, 2, 187)) := CS.F (i := 7) (x := ⟨"java/lang/Comparable", "compareTo", "(Ljava/lang/Object;)I"⟩) mk_X7_compareTo ⟨by decide, Or.inl rfl, rfl⟩ (by decide) q1962 q1149 q1147 q1145 q1144 q1150 q1148 q1146 (by decide +kernel) (by decide +kernel)
theorem clv_112_4 : (fun e : Instr × Nat × Nat × Nat × Nat => CS RJ12 e.1 e.2.1 e.2.2.1 e.2.2.2.1 (mth e.2.2.2.2)) (((.invokevirtual 139), 3, 18, 5, 287)) := CS.V (i := 17) mk_J12_addEntry ⟨by decide, Or.inl rfl, rfl⟩ rfl q2022 q2024 qs14 (by decide +kernel) (by decide +kernel)
theorem clv_112_5 : (fun e : Instr × Nat × Nat × Nat × Nat => CS RJ12 e.1 e.2.1 e.2.2.1 e.2.2.2.1 (mth e.2.2.2.2)) (((.invokevirtual 123), 3, 18, 3, 286)) := CS.V (i := 17) mk_J12_compare ⟨by decide, Or.inl rfl, rfl⟩ rfl q1956 q1957 q1958 (by decide +kernel) (by decide +kernel)
theorem clv_112_6 : (fun e : Instr × Nat × Nat × Nat × Nat => CS RJ12 e.1 e.2.1 e.2.2.1 e.2.2.2.1 (mth e.2.2.2.2)) (((.invokevirtual 170), 3, 18, 2, 288)) := CS.V (i := 17) mk_J12_fixAfterInsertion ⟨by decide, Or.inl rfl, rfl⟩ rfl q2026 q2028 qs15 (by decide +kernel) (by decide +kernel)
theorem clv_112_7 : (fun e : Instr × Nat × Nat × Nat × Nat => CS RJ12 e.1 e.2.1 e.2.2.1 e.2.2.2.1 (mth e.2.2.2.2)) (((.invokevirtual 311), 3, 18, 2, 294)) := CS.V (i := 17) mk_J12_rotateLeft ⟨by decide, Or.inl rfl, rfl⟩ rfl q2045 q2047 qs16 (by decide +kernel) (by decide +kernel)
theorem clv_112_8 : (fun e : Instr × Nat × Nat × Nat × Nat => CS RJ12 e.1 e.2.1 e.2.2.1 e.2.2.2.1 (mth e.2.2.2.2)) (((.invokevirtual 314), 3, 18, 2, 295)) := CS.V (i := 17) mk_J12_rotateRight ⟨by decide, Or.inl rfl, rfl⟩ rfl q2049 q2051 qs17 (by decide +kernel) (by decide +kernel)
theorem clv_112_ok : ∀ e ∈ clv_112, CS RJ12 e.1 e.2.1 e.2.2.1 e.2.2.2.1 (mth e.2.2.2.2) := List.forall_mem_cons.mpr ⟨clv_112_0, List.forall_mem_cons.mpr ⟨clv_112_1, List.forall_mem_cons.mpr ⟨clv_112_2, List.forall_mem_cons.mpr ⟨clv_112_3, List.forall_mem_cons.mpr ⟨clv_112_4, List.forall_mem_cons.mpr ⟨clv_112_5, List.forall_mem_cons.mpr ⟨clv_112_6, List.forall_mem_cons.mpr ⟨clv_112_7, List.forall_mem_cons.mpr ⟨clv_112_8, fun _ h => absurd h List.not_mem_nil⟩⟩⟩⟩⟩⟩⟩⟩⟩
def klk_112 : List (Nat × Nat) := [(99, 8), (99, 15), (99, 216), (99, 20), (99, 220)]
theorem klk_112_0 : (fun e : Nat × Nat => CG RJ12 e.1 e.2) ((99, 8)) := ⟨7, (RX7, TX7, 1), _, by decide, Or.inl rfl, rfl, q1960, Or.inr q1146⟩
theorem klk_112_1 : (fun e : Nat × Nat => CG RJ12 e.1 e.2) ((99, 15)) := ⟨14, (RJ8, TJ8, 4), _, by decide, Or.inl rfl, rfl, q1960, Or.inr q1322⟩
theorem klk_112_2 : (fun e : Nat × Nat => CG RJ12 e.1 e.2) ((99, 216)) := ⟨15, (RJ9, TJ9, 2), _, by decide, Or.inr rfl, rfl, q1960, Or.inr q1172⟩
theorem klk_112_3 : (fun e : Nat × Nat => CG RJ12 e.1 e.2) ((99, 20)) := ⟨19, (RJ18, TJ18, 1), _, by decide, Or.inl rfl, rfl, q1960, Or.inr q1160⟩
theorem klk_112_4 : (fun e : Nat × Nat => CG RJ12 e.1 e.2) ((99, 220)) := ⟨19, (RJ18, TJ18, 1), _, by decide, Or.inr rfl, rfl, q1960, Or.inr q1160⟩
theorem klk_112_ok : ∀ e ∈ klk_112, CG RJ12 e.1 e.2 := List.forall_mem_cons.mpr ⟨klk_112_0, List.forall_mem_cons.mpr ⟨klk_112_1, List.forall_mem_cons.mpr ⟨klk_112_2, List.forall_mem_cons.mpr ⟨klk_112_3, List.forall_mem_cons.mpr ⟨klk_112_4, fun _ h => absurd h List.not_mem_nil⟩⟩⟩⟩⟩
def ilk_112 : List (Nat × Nat) := []
theorem ilk_112_ok : ∀ e ∈ ilk_112, CG RJ12 e.1 e.2 := fun _ h => absurd h List.not_mem_nil
def slk_112 : List (Nat × Nat) := []
theorem slk_112_ok : ∀ e ∈ slk_112, GS RJ12 e.1 e.2 := fun _ h => absurd h List.not_mem_nil
def alk_112 : List (Nat × Nat) := []
theorem alk_112_ok : ∀ e ∈ alk_112, AG RJ12 e.1 e.2 := fun _ h => absurd h List.not_mem_nil
def dlk_112 : List (Nat × Int) := []
theorem dlk_112_ok : ∀ e ∈ dlk_112, Cond.constant RJ12 e.1 (iI e.2) ∈ lw_all := fun _ h => absurd h List.not_mem_nil
def d2k_112 : List (Nat × Int) := []
theorem d2k_112_ok : ∀ e ∈ d2k_112, Cond.constantLong RJ12 e.1 (lI e.2) ∈ lw_all := fun _ h => absurd h List.not_mem_nil
def fck_112 : List (Nat × UInt32) := []
theorem fck_112_ok : ∀ e ∈ fck_112, Cond.constantFloat RJ12 e.1 e.2 ∈ lw_all := fun _ h => absurd h List.not_mem_nil
def flk_113 : List (Nat × Nat × Nat) := []
theorem flk_113_ok : ∀ e ∈ flk_113, FG RJ13 e.1 e.2.1 e.2.2 := fun _ h => absurd h List.not_mem_nil
def plk_113 : List (Nat × Nat × Nat × FieldType × Bool) := []
theorem plk_113_ok : ∀ e ∈ plk_113, PG RJ13 e.1 e.2.1 e.2.2.1 e.2.2.2.1 e.2.2.2.2 := fun _ h => absurd h List.not_mem_nil
def nlk_113 : List (Nat × Nat) := []
theorem nlk_113_ok : ∀ e ∈ nlk_113, NG RJ13 e.1 e.2 := fun _ h => absurd h List.not_mem_nil
def cls_113 : List (Nat × Nat × Nat) := []
theorem cls_113_ok : ∀ e ∈ cls_113, CS RJ13 (.invokestatic e.1) 3 0 e.2.1 (mth e.2.2) := fun _ h => absurd h List.not_mem_nil
def cli_113 : List (Nat × Nat × Nat) := [(1, 1, 207)]
theorem cli_113_0 : (fun e : Nat × Nat × Nat => ∀ tag, tag ≠ 0 → CS RJ13 (.invokespecial e.1) 3 tag e.2.1 (mth e.2.2)) ((1, 1, 207)) := fun tag ht => CS.I mk_J0_init q614 q186 rfl rfl ht (by decide +kernel) (by decide +kernel)
theorem cli_113_ok : ∀ e ∈ cli_113, ∀ tag, tag ≠ 0 → CS RJ13 (.invokespecial e.1) 3 tag e.2.1 (mth e.2.2) := List.forall_mem_cons.mpr ⟨cli_113_0, fun _ h => absurd h List.not_mem_nil⟩
def clv_113 : List (Instr × Nat × Nat × Nat × Nat) := []
theorem clv_113_ok : ∀ e ∈ clv_113, CS RJ13 e.1 e.2.1 e.2.2.1 e.2.2.2.1 (mth e.2.2.2.2) := fun _ h => absurd h List.not_mem_nil
def klk_113 : List (Nat × Nat) := []
theorem klk_113_ok : ∀ e ∈ klk_113, CG RJ13 e.1 e.2 := fun _ h => absurd h List.not_mem_nil
def ilk_113 : List (Nat × Nat) := []
theorem ilk_113_ok : ∀ e ∈ ilk_113, CG RJ13 e.1 e.2 := fun _ h => absurd h List.not_mem_nil
def slk_113 : List (Nat × Nat) := []
theorem slk_113_ok : ∀ e ∈ slk_113, GS RJ13 e.1 e.2 := fun _ h => absurd h List.not_mem_nil
def alk_113 : List (Nat × Nat) := []
theorem alk_113_ok : ∀ e ∈ alk_113, AG RJ13 e.1 e.2 := fun _ h => absurd h List.not_mem_nil
def dlk_113 : List (Nat × Int) := []
theorem dlk_113_ok : ∀ e ∈ dlk_113, Cond.constant RJ13 e.1 (iI e.2) ∈ lw_all := fun _ h => absurd h List.not_mem_nil
def d2k_113 : List (Nat × Int) := []
theorem d2k_113_ok : ∀ e ∈ d2k_113, Cond.constantLong RJ13 e.1 (lI e.2) ∈ lw_all := fun _ h => absurd h List.not_mem_nil
def fck_113 : List (Nat × UInt32) := []
theorem fck_113_ok : ∀ e ∈ fck_113, Cond.constantFloat RJ13 e.1 e.2 ∈ lw_all := fun _ h => absurd h List.not_mem_nil
def flk_114 : List (Nat × Nat × Nat) := [(10, 19, 0)]
theorem flk_114_0 : (fun e : Nat × Nat × Nat => FG RJ14 e.1 e.2.1 e.2.2) ((10, 19, 0)) := FG.mk' (i := 18) (k := 0) (by decide) (by decide) rfl (by decide) (Or.inl q633) (Or.inl rfl) (Or.inl rfl)
theorem flk_114_ok : ∀ e ∈ flk_114, FG RJ14 e.1 e.2.1 e.2.2 := List.forall_mem_cons.mpr ⟨flk_114_0, fun _ h => absurd h List.not_mem_nil⟩
def plk_114 : List (Nat × Nat × Nat × FieldType × Bool) := [(10, 19, 0, tyJ15 0, false)]
theorem plk_114_0 : (fun e : Nat × Nat × Nat × FieldType × Bool => PG RJ14 e.1 e.2.1 e.2.2.1 e.2.2.2.1 e.2.2.2.2) ((10, 19, 0, tyJ15 0, false)) := PG.mk' (i := 18) (k := 0) (by decide) (by decide) rfl (by decide) (Or.inl q633) (Or.inl rfl) rfl rfl (fun h => by cases h)
theorem plk_114_ok : ∀ e ∈ plk_114, PG RJ14 e.1 e.2.1 e.2.2.1 e.2.2.2.1 e.2.2.2.2 := List.forall_mem_cons.mpr ⟨plk_114_0, fun _ h => absurd h List.not_mem_nil⟩
def nlk_114 : List (Nat × Nat) := [(42, 12)]
theorem nlk_114_0 : (fun e : Nat × Nat => NG RJ14 e.1 e.2) ((42, 12)) := ⟨by decide, by decide, _, rfl, q615, q217, q106⟩
theorem nlk_114_ok : ∀ e ∈ nlk_114, NG RJ14 e.1 e.2 := List.forall_mem_cons.mpr ⟨nlk_114_0, fun _ h => absurd h List.not_mem_nil⟩
def cls_114 : List (Nat × Nat × Nat) := []
theorem cls_114_ok : ∀ e ∈ cls_114, CS RJ14 (.invokestatic e.1) 3 0 e.2.1 (mth e.2.2) := fun _ h => absurd h List.not_mem_nil
def cli_114 : List (Nat × Nat × Nat) := [(1, 1, 297), (44, 3, 234)]
theorem cli_114_0 : (fun e : Nat × Nat × Nat => ∀ tag, tag ≠ 0 → CS RJ14 (.invokespecial e.1) 3 tag e.2.1 (mth e.2.2)) ((1, 1, 297)) := fun tag ht => CS.I mk_J13_init q611 q612 rfl rfl ht (by decide +kernel) (by decide +kernel)
theorem cli_114_1 : (fun e : Nat × Nat × Nat => ∀ tag, tag ≠ 0 → CS RJ14 (.invokespecial e.1) 3 tag e.2.1 (mth e.2.2)) ((44, 3, 234)) := fun tag ht => CS.I mk_J5_init_2 q616 q617 rfl rfl ht (by decide +kernel) (by decide +kernel)
theorem cli_114_ok : ∀ e ∈ cli_114, ∀ tag, tag ≠ 0 → CS RJ14 (.invokespecial e.1) 3 tag e.2.1 (mth e.2.2) := List.forall_mem_cons.mpr ⟨cli_114_0, List.forall_mem_cons.mpr ⟨cli_114_1, fun _ h => absurd h List.not_mem_nil⟩⟩
def clv_114 : List (Instr × Nat × Nat × Nat × Nat) := [((.invokevirtual 45), 3, 13, 1, 235), ((.invokeinterface 49 1), 5, 19, 1, 299), ((.invokeinterface 49 1), 5, 22, 1, 318), ((.invokevirtual 68), 3, 13, 3, 222), ((.invokevirtual 55), 3, 13, 1, 229), ((.invokevirtual 60), 3, 13, 2, 227), ((.invokevirtual 76), 3, 13, 1, 243)]
theorem clv_114_0 : (fun e : Instr × Nat × Nat × Nat × Nat => CS RJ14 e.1 e.2.1 e.2.2.1 e.2.2.2.1 (mth e.2.2.2.2)) (((.invokevirtual 45), 3, 13, 1, 235)) := CS.A (i := 12) (owner := "java/util/HashMap") (x := ⟨"java/util/HashMap", "keySet", "()Ljava/util/Set;"⟩) mk_J5_keySet ⟨by decide, Or.inl rfl, rfl⟩ q795 q797 q819 q799 q798 (by decide +kernel) (by decide +kernel)
theorem clv_114_1 : (fun e : Instr × Nat × Nat × Nat × Nat => CS RJ14 e.1 e.2.1 e.2.2.1 e.2.2.2.1 (mth e.2.2.2.2)) (((.invokeinterface 49 1), 5, 19, 1, 299)) := CS.F (i := 18) (x := ⟨"java/util/Set", "iterator", "()Ljava/util/Iterator;"⟩) mk_J14_iterator ⟨by decide, Or.inl rfl, rfl⟩ (by decide) q821 q792 q829 q823 q822 q793 q791 q828 (by decide +kernel) (by decide +kernel)
theorem clv_114_2 : (fun e : Instr × Nat × Nat × Nat × Nat => CS RJ14 e.1 e.2.1 e.2.2.1 e.2.2.2.1 (mth e.2.2.2.2)) (((.invokeinterface 49 1), 5, 22, 1, 318)) := CS.F (i := 21) (x := ⟨"java/util/Set", "iterator", "()Ljava/util/Iterator;"⟩) mk_J25_iterator ⟨by decide, Or.inl rfl, rfl⟩ (by decide) q821 q761 q827 q823 q822 q762 q760 q826 (by decide +kernel) (by decide +kernel)
theorem clv_114_3 : (fun e : Instr × Nat × Nat × Nat × Nat => CS RJ14 e.1 e.2.1 e.2.2.1 e.2.2.2.1 (mth e.2.2.2.2)) (((.invokevirtual 68), 3, 13, 3, 222)) := CS.U (i := 12) (owner := "java/util/HashMap") (x := ⟨"java/util/HashMap", "put", "(Ljava/lang/Object;Ljava/lang/Object;)Ljava/lang/Object;"⟩) mk_J4_put ⟨by decide, Or.inl rfl, rfl⟩ rfl q906 q908 q907 q909 (by decide +kernel) (by decide +kernel)
theorem clv_114_4 : (fun e : Instr × Nat × Nat × Nat × Nat => CS RJ14 e.1 e.2.1 e.2.2.1 e.2.2.2.1 (mth e.2.2.2.2)) (((.invokevirtual 55), 3, 13, 1, 229)) := CS.U (i := 12) (owner := "java/util/HashMap") (x := ⟨"java/util/HashMap", "size", "()I"⟩) mk_J4_size ⟨by decide, Or.inl rfl, rfl⟩ rfl q1783 q1785 q1784 q1786 (by decide +kernel) (by decide +kernel)
theorem clv_114_5 : (fun e : Instr × Nat × Nat × Nat × Nat => CS RJ14 e.1 e.2.1 e.2.2.1 e.2.2.2.1 (mth e.2.2.2.2)) (((.invokevirtual 60), 3, 13, 2, 227)) := CS.U (i := 12) (owner := "java/util/HashMap") (x := ⟨"java/util/HashMap", "containsKey", "(Ljava/lang/Object;)Z"⟩) mk_J4_containsKey ⟨by decide, Or.inl rfl, rfl⟩ rfl q1842 q3156 q1685 q3157 (by decide +kernel) (by decide +kernel)
theorem clv_114_6 : (fun e : Instr × Nat × Nat × Nat × Nat => CS RJ14 e.1 e.2.1 e.2.2.1 e.2.2.2.1 (mth e.2.2.2.2)) (((.invokevirtual 76), 3, 13, 1, 243)) := CS.O (i := 12) (owner := "java/util/HashMap") (x := ⟨"java/util/HashMap", "clear", "()V"⟩) mk_J5_clear ⟨by decide, Or.inl rfl, rfl⟩ q2227 q2229 q2228 q2234 q2231 q2230 (by decide +kernel) (by decide +kernel)
theorem clv_114_ok : ∀ e ∈ clv_114, CS RJ14 e.1 e.2.1 e.2.2.1 e.2.2.2.1 (mth e.2.2.2.2) := List.forall_mem_cons.mpr ⟨clv_114_0, List.forall_mem_cons.mpr ⟨clv_114_1, List.forall_mem_cons.mpr ⟨clv_114_2, List.forall_mem_cons.mpr ⟨clv_114_3, List.forall_mem_cons.mpr ⟨clv_114_4, List.forall_mem_cons.mpr ⟨clv_114_5, List.forall_mem_cons.mpr ⟨clv_114_6, fun _ h => absurd h List.not_mem_nil⟩⟩⟩⟩⟩⟩⟩
def klk_114 : List (Nat × Nat) := []
theorem klk_114_ok : ∀ e ∈ klk_114, CG RJ14 e.1 e.2 := fun _ h => absurd h List.not_mem_nil
def ilk_114 : List (Nat × Nat) := []
theorem ilk_114_ok : ∀ e ∈ ilk_114, CG RJ14 e.1 e.2 := fun _ h => absurd h List.not_mem_nil
def slk_114 : List (Nat × Nat) := [(64, 1)]
theorem slk_114_0 : (fun e : Nat × Nat => GS RJ14 e.1 e.2) ((64, 1)) := ⟨_, rfl, "java/util/HashSet", q904, Or.inl rfl⟩
theorem slk_114_ok : ∀ e ∈ slk_114, GS RJ14 e.1 e.2 := List.forall_mem_cons.mpr ⟨slk_114_0, fun _ h => absurd h List.not_mem_nil⟩
def alk_114 : List (Nat × Nat) := []
theorem alk_114_ok : ∀ e ∈ alk_114, AG RJ14 e.1 e.2 := fun _ h => absurd h List.not_mem_nil
def dlk_114 : List (Nat × Int) := []
theorem dlk_114_ok : ∀ e ∈ dlk_114, Cond.constant RJ14 e.1 (iI e.2) ∈ lw_all := fun _ h => absurd h List.not_mem_nil
def d2k_114 : List (Nat × Int) := []
theorem d2k_114_ok : ∀ e ∈ d2k_114, Cond.constantLong RJ14 e.1 (lI e.2) ∈ lw_all := fun _ h => absurd h List.not_mem_nil
def fck_114 : List (Nat × UInt32) := []
theorem fck_114_ok : ∀ e ∈ fck_114, Cond.constantFloat RJ14 e.1 e.2 ∈ lw_all := fun _ h => absurd h List.not_mem_nil
def flk_115 : List (Nat × Nat × Nat) := []
theorem flk_115_ok : ∀ e ∈ flk_115, FG RJ15 e.1 e.2.1 e.2.2 := fun _ h => absurd h List.not_mem_nil
def plk_115 : List (Nat × Nat × Nat × FieldType × Bool) := []
theorem plk_115_ok : ∀ e ∈ plk_115, PG RJ15 e.1 e.2.1 e.2.2.1 e.2.2.2.1 e.2.2.2.2 := fun _ h => absurd h List.not_mem_nil
def nlk_115 : List (Nat × Nat) := []
theorem nlk_115_ok : ∀ e ∈ nlk_115, NG RJ15 e.1 e.2 := fun _ h => absurd h List.not_mem_nil
def cls_115 : List (Nat × Nat × Nat) := []
theorem cls_115_ok : ∀ e ∈ cls_115, CS RJ15 (.invokestatic e.1) 3 0 e.2.1 (mth e.2.2) := fun _ h => absurd h List.not_mem_nil
def cli_115 : List (Nat × Nat × Nat) := [(1, 4, 298)]
theorem cli_115_0 : (fun e : Nat × Nat × Nat => ∀ tag, tag ≠ 0 → CS RJ15 (.invokespecial e.1) 3 tag e.2.1 (mth e.2.2)) ((1, 4, 298)) := fun tag ht => CS.I mk_J14_init q608 q609 rfl rfl ht (by decide +kernel) (by decide +kernel)
theorem cli_115_ok : ∀ e ∈ cli_115, ∀ tag, tag ≠ 0 → CS RJ15 (.invokespecial e.1) 3 tag e.2.1 (mth e.2.2) := List.forall_mem_cons.mpr ⟨cli_115_0, fun _ h => absurd h List.not_mem_nil⟩
def clv_115 : List (Instr × Nat × Nat × Nat × Nat) := []
theorem clv_115_ok : ∀ e ∈ clv_115, CS RJ15 e.1 e.2.1 e.2.2.1 e.2.2.2.1 (mth e.2.2.2.2) := fun _ h => absurd h List.not_mem_nil
def klk_115 : List (Nat × Nat) := []
theorem klk_115_ok : ∀ e ∈ klk_115, CG RJ15 e.1 e.2 := fun _ h => absurd h List.not_mem_nil
def ilk_115 : List (Nat × Nat) := []
theorem ilk_115_ok : ∀ e ∈ ilk_115, CG RJ15 e.1 e.2 := fun _ h => absurd h List.not_mem_nil
def slk_115 : List (Nat × Nat) := []
theorem slk_115_ok : ∀ e ∈ slk_115, GS RJ15 e.1 e.2 := fun _ h => absurd h List.not_mem_nil
def alk_115 : List (Nat × Nat) := []
theorem alk_115_ok : ∀ e ∈ alk_115, AG RJ15 e.1 e.2 := fun _ h => absurd h List.not_mem_nil
def dlk_115 : List (Nat × Int) := []
theorem dlk_115_ok : ∀ e ∈ dlk_115, Cond.constant RJ15 e.1 (iI e.2) ∈ lw_all := fun _ h => absurd h List.not_mem_nil
def d2k_115 : List (Nat × Int) := []
theorem d2k_115_ok : ∀ e ∈ d2k_115, Cond.constantLong RJ15 e.1 (lI e.2) ∈ lw_all := fun _ h => absurd h List.not_mem_nil
def fck_115 : List (Nat × UInt32) := [(7, 1061158912)]
theorem fck_115_0 : (fun e : Nat × UInt32 => Cond.constantFloat RJ15 e.1 e.2 ∈ lw_all) ((7, 1061158912)) := q607
theorem fck_115_ok : ∀ e ∈ fck_115, Cond.constantFloat RJ15 e.1 e.2 ∈ lw_all := List.forall_mem_cons.mpr ⟨fck_115_0, fun _ h => absurd h List.not_mem_nil⟩
def flk_116 : List (Nat × Nat × Nat) := []
theorem flk_116_ok : ∀ e ∈ flk_116, FG RJ16 e.1 e.2.1 e.2.2 := fun _ h => absurd h List.not_mem_nil
def plk_116 : List (Nat × Nat × Nat × FieldType × Bool) := []
theorem plk_116_ok : ∀ e ∈ plk_116, PG RJ16 e.1 e.2.1 e.2.2.1 e.2.2.2.1 e.2.2.2.2 := fun _ h => absurd h List.not_mem_nil
def nlk_116 : List (Nat × Nat) := []
theorem nlk_116_ok : ∀ e ∈ nlk_116, NG RJ16 e.1 e.2 := fun _ h => absurd h List.not_mem_nil
def cls_116 : List (Nat × Nat × Nat) := []
theorem cls_116_ok : ∀ e ∈ cls_116, CS RJ16 (.invokestatic e.1) 3 0 e.2.1 (mth e.2.2) := fun _ h => absurd h List.not_mem_nil
def cli_116 : List (Nat × Nat × Nat) := [(1, 1, 354)]
theorem cli_116_0 : (fun e : Nat × Nat × Nat => ∀ tag, tag ≠ 0 → CS RJ16 (.invokespecial e.1) 3 tag e.2.1 (mth e.2.2)) ((1, 1, 354)) := fun tag ht => CS.I mk_J45_init q1939 q163 rfl rfl ht (by decide +kernel) (by decide +kernel)
theorem cli_116_ok : ∀ e ∈ cli_116, ∀ tag, tag ≠ 0 → CS RJ16 (.invokespecial e.1) 3 tag e.2.1 (mth e.2.2) := List.forall_mem_cons.mpr ⟨cli_116_0, fun _ h => absurd h List.not_mem_nil⟩
def clv_116 : List (Instr × Nat × Nat × Nat × Nat) := []
theorem clv_116_ok : ∀ e ∈ clv_116, CS RJ16 e.1 e.2.1 e.2.2.1 e.2.2.2.1 (mth e.2.2.2.2) := fun _ h => absurd h List.not_mem_nil
def klk_116 : List (Nat × Nat) := []
theorem klk_116_ok : ∀ e ∈ klk_116, CG RJ16 e.1 e.2 := fun _ h => absurd h List.not_mem_nil
def ilk_116 : List (Nat × Nat) := []
theorem ilk_116_ok : ∀ e ∈ ilk_116, CG RJ16 e.1 e.2 := fun _ h => absurd h List.not_mem_nil
def slk_116 : List (Nat × Nat) := []
theorem slk_116_ok : ∀ e ∈ slk_116, GS RJ16 e.1 e.2 := fun _ h => absurd h List.not_mem_nil
def alk_116 : List (Nat × Nat) := []
theorem alk_116_ok : ∀ e ∈ alk_116, AG RJ16 e.1 e.2 := fun _ h => absurd h List.not_mem_nil
def dlk_116 : List (Nat × Int) := []
theorem dlk_116_ok : ∀ e ∈ dlk_116, Cond.constant RJ16 e.1 (iI e.2) ∈ lw_all := fun _ h => absurd h List.not_mem_nil
def d2k_116 : List (Nat × Int) := []
theorem d2k_116_ok : ∀ e ∈ d2k_116, Cond.constantLong RJ16 e.1 (lI e.2) ∈ lw_all := fun _ h => absurd h List.not_mem_nil
def fck_116 : List (Nat × UInt32) := []
theorem fck_116_ok : ∀ e ∈ fck_116, Cond.constantFloat RJ16 e.1 e.2 ∈ lw_all := fun _ h => absurd h List.not_mem_nil
def flk_117 : List (Nat × Nat × Nat) := []
theorem flk_117_ok : ∀ e ∈ flk_117, FG RJ17 e.1 e.2.1 e.2.2 := fun _ h => absurd h List.not_mem_nil
def plk_117 : List (Nat × Nat × Nat × FieldType × Bool) := []
theorem plk_117_ok : ∀ e ∈ plk_117, PG RJ17 e.1 e.2.1 e.2.2.1 e.2.2.2.1 e.2.2.2.2 := fun _ h => absurd h List.not_mem_nil
def nlk_117 : List (Nat × Nat) := []
theorem nlk_117_ok : ∀ e ∈ nlk_117, NG RJ17 e.1 e.2 := fun _ h => absurd h List.not_mem_nil
def cls_117 : List (Nat × Nat × Nat) := []
theorem cls_117_ok : ∀ e ∈ cls_117, CS RJ17 (.invokestatic e.1) 3 0 e.2.1 (mth e.2.2) := fun _ h => absurd h List.not_mem_nil
def cli_117 : List (Nat × Nat × Nat) := []
theorem cli_117_ok : ∀ e ∈ cli_117, ∀ tag, tag ≠ 0 → CS RJ17 (.invokespecial e.1) 3 tag e.2.1 (mth e.2.2) := fun _ h => absurd h List.not_mem_nil
def clv_117 : List (Instr × Nat × Nat × Nat × Nat) := []
theorem clv_117_ok : ∀ e ∈ clv_117, CS RJ17 e.1 e.2.1 e.2.2.1 e.2.2.2.1 (mth e.2.2.2.2) := fun _ h => absurd h List.not_mem_nil
def klk_117 : List (Nat × Nat) := []
theorem klk_117_ok : ∀ e ∈ klk_117, CG RJ17 e.1 e.2 := fun _ h => absurd h List.not_mem_nil
def ilk_117 : List (Nat × Nat) := []
theorem ilk_117_ok : ∀ e ∈ ilk_117, CG RJ17 e.1 e.2 := fun _ h => absurd h List.not_mem_nil
def slk_117 : List (Nat × Nat) := []
theorem slk_117_ok : ∀ e ∈ slk_117, GS RJ17 e.1 e.2 := fun _ h => absurd h List.not_mem_nil
def alk_117 : List (Nat × Nat) := []
theorem alk_117_ok : ∀ e ∈ alk_117, AG RJ17 e.1 e.2 := fun _ h => absurd h List.not_mem_nil
def dlk_117 : List (Nat × Int) := []
theorem dlk_117_ok : ∀ e ∈ dlk_117, Cond.constant RJ17 e.1 (iI e.2) ∈ lw_all := fun _ h => absurd h List.not_mem_nil
def d2k_117 : List (Nat × Int) := []
theorem d2k_117_ok : ∀ e ∈ d2k_117, Cond.constantLong RJ17 e.1 (lI e.2) ∈ lw_all := fun _ h => absurd h List.not_mem_nil
def fck_117 : List (Nat × UInt32) := []
theorem fck_117_ok : ∀ e ∈ fck_117, Cond.constantFloat RJ17 e.1 e.2 ∈ lw_all := fun _ h => absurd h List.not_mem_nil
def flk_118 : List (Nat × Nat × Nat) := [(205, 20, 0), (205, 220, 0)]
theorem flk_118_0 : (fun e : Nat × Nat × Nat => FG RJ18 e.1 e.2.1 e.2.2) ((205, 20, 0)) := FG.mk' (i := 19) (k := 0) (by decide) (by decide) rfl (by decide) (Or.inl q1940) (Or.inl rfl) (Or.inl rfl)
theorem flk_118_1 : (fun e : Nat × Nat × Nat => FG RJ18 e.1 e.2.1 e.2.2) ((205, 220, 0)) := FG.mk' (i := 19) (k := 0) (by decide) (by decide) rfl (by decide) (Or.inl q1940) (Or.inl rfl) (Or.inr rfl)
theorem flk_118_ok : ∀ e ∈ flk_118, FG RJ18 e.1 e.2.1 e.2.2 := List.forall_mem_cons.mpr ⟨flk_118_0, List.forall_mem_cons.mpr ⟨flk_118_1, fun _ h => absurd h List.not_mem_nil⟩⟩
def plk_118 : List (Nat × Nat × Nat × FieldType × Bool) := [(205, 20, 0, tyJ18 0, true)]
theorem plk_118_0 : (fun e : Nat × Nat × Nat × FieldType × Bool => PG RJ18 e.1 e.2.1 e.2.2.1 e.2.2.2.1 e.2.2.2.2) ((205, 20, 0, tyJ18 0, true)) := PG.mk' (i := 19) (k := 0) (by decide) (by decide) rfl (by decide) (Or.inl q1940) (Or.inl rfl) rfl rfl (fun _ => rfl)
theorem plk_118_ok : ∀ e ∈ plk_118, PG RJ18 e.1 e.2.1 e.2.2.1 e.2.2.2.1 e.2.2.2.2 := List.forall_mem_cons.mpr ⟨plk_118_0, fun _ h => absurd h List.not_mem_nil⟩
def nlk_118 : List (Nat × Nat) := [(1, 19)]
theorem nlk_118_0 : (fun e : Nat × Nat => NG RJ18 e.1 e.2) ((1, 19)) := ⟨by decide, by decide, _, rfl, q1166, q1932, q122⟩
theorem nlk_118_ok : ∀ e ∈ nlk_118, NG RJ18 e.1 e.2 := List.forall_mem_cons.mpr ⟨nlk_118_0, fun _ h => absurd h List.not_mem_nil⟩
def cls_118 : List (Nat × Nat × Nat) := []
theorem cls_118_ok : ∀ e ∈ cls_118, CS RJ18 (.invokestatic e.1) 3 0 e.2.1 (mth e.2.2) := fun _ h => absurd h List.not_mem_nil
def cli_118 : List (Nat × Nat × Nat) := [(199, 2, 311), (202, 1, 305)]
theorem cli_118_0 : (fun e : Nat × Nat × Nat => ∀ tag, tag ≠ 0 → CS RJ18 (.invokespecial e.1) 3 tag e.2.1 (mth e.2.2)) ((199, 2, 311)) := fun tag ht => CS.I mk_J18_init q1933 q1934 rfl rfl ht (by decide +kernel) (by decide +kernel)
theorem cli_118_1 : (fun e : Nat × Nat × Nat => ∀ tag, tag ≠ 0 → CS RJ18 (.invokespecial e.1) 3 tag e.2.1 (mth e.2.2)) ((202, 1, 305)) := fun tag ht => CS.I mk_J16_init q1936 q1937 rfl rfl ht (by decide +kernel) (by decide +kernel)
theorem cli_118_ok : ∀ e ∈ cli_118, ∀ tag, tag ≠ 0 → CS RJ18 (.invokespecial e.1) 3 tag e.2.1 (mth e.2.2) := List.forall_mem_cons.mpr ⟨cli_118_0, List.forall_mem_cons.mpr ⟨cli_118_1, fun _ h => absurd h List.not_mem_nil⟩⟩
def clv_118 : List (Instr × Nat × Nat × Nat × Nat) := []
theorem clv_118_ok : ∀ e ∈ clv_118, CS RJ18 e.1 e.2.1 e.2.2.1 e.2.2.2.1 (mth e.2.2.2.2) := fun _ h => absurd h List.not_mem_nil
def klk_118 : List (Nat × Nat) := []
theorem klk_118_ok : ∀ e ∈ klk_118, CG RJ18 e.1 e.2 := fun _ h => absurd h List.not_mem_nil
def ilk_118 : List (Nat × Nat) := []
theorem ilk_118_ok : ∀ e ∈ ilk_118, CG RJ18 e.1 e.2 := fun _ h => absurd h List.not_mem_nil
def slk_118 : List (Nat × Nat) := [(191, 3), (195, 4)]
theorem slk_118_0 : (fun e : Nat × Nat => GS RJ18 e.1 e.2) ((191, 3)) := ⟨_, rfl, "java/lang/Integer$IntegerCache", q1928, Or.inl rfl⟩
theorem slk_118_1 : (fun e : Nat × Nat => GS RJ18 e.1 e.2) ((195, 4)) := ⟨_, rfl, "java/lang/Integer$IntegerCache", q1930, Or.inl rfl⟩
theorem slk_118_ok : ∀ e ∈ slk_118, GS RJ18 e.1 e.2 := List.forall_mem_cons.mpr ⟨slk_118_0, List.forall_mem_cons.mpr ⟨slk_118_1, fun _ h => absurd h List.not_mem_nil⟩⟩
def alk_118 : List (Nat × Nat) := []
theorem alk_118_ok : ∀ e ∈ alk_118, AG RJ18 e.1 e.2 := fun _ h => absurd h List.not_mem_nil
def dlk_118 : List (Nat × Int) := []
theorem dlk_118_ok : ∀ e ∈ dlk_118, Cond.constant RJ18 e.1 (iI e.2) ∈ lw_all := fun _ h => absurd h List.not_mem_nil
def d2k_118 : List (Nat × Int) := []
theorem d2k_118_ok : ∀ e ∈ d2k_118, Cond.constantLong RJ18 e.1 (lI e.2) ∈ lw_all := fun _ h => absurd h List.not_mem_nil
def fck_118 : List (Nat × UInt32) := []
theorem fck_118_ok : ∀ e ∈ fck_118, Cond.constantFloat RJ18 e.1 e.2 ∈ lw_all := fun _ h => absurd h List.not_mem_nil
def flk_122 : List (Nat × Nat × Nat) := [(26, 21, 0), (1, 21, 4), (29, 13, 3), (33, 21, 2), (13, 21, 3), (45, 24, 4), (50, 24, 5), (17, 13, 9), (23, 13, 8)]
theorem flk_122_0 : (fun e : Nat × Nat × Nat => FG RJ22 e.1 e.2.1 e.2.2) ((26, 21, 0)) := FG.mk' (i := 20) (k := 0) (by decide) (by decide) rfl (by decide) (Or.inl q773) (Or.inl rfl) (Or.inl rfl)
theorem flk_122_1 : (fun e : Nat × Nat × Nat => FG RJ22 e.1 e.2.1 e.2.2) ((1, 21, 4)) := FG.mk' (i := 20) (k := 4) (by decide) (by decide) rfl (by decide) (Or.inl q777) (Or.inl rfl) (Or.inl rfl)
theorem flk_122_2 : (fun e : Nat × Nat × Nat => FG RJ22 e.1 e.2.1 e.2.2) ((29, 13, 3)) := FG.mk' (i := 12) (k := 3) (by decide) (by decide) rfl (by decide) (Or.inl q240) (Or.inr q241) (Or.inl rfl)
theorem flk_122_3 : (fun e : Nat × Nat × Nat => FG RJ22 e.1 e.2.1 e.2.2) ((33, 21, 2)) := FG.mk' (i := 20) (k := 2) (by decide) (by decide) rfl (by decide) (Or.inl q775) (Or.inl rfl) (Or.inl rfl)
theorem flk_122_4 : (fun e : Nat × Nat × Nat => FG RJ22 e.1 e.2.1 e.2.2) ((13, 21, 3)) := FG.mk' (i := 20) (k := 3) (by decide) (by decide) rfl (by decide) (Or.inl q776) (Or.inl rfl) (Or.inl rfl)
theorem flk_122_5 : (fun e : Nat × Nat × Nat => FG RJ22 e.1 e.2.1 e.2.2) ((45, 24, 4)) := FG.mk' (i := 23) (k := 4) (by decide) (by decide) rfl (by decide) (Or.inl q1046) (Or.inl rfl) (Or.inl rfl)
theorem flk_122_6 : (fun e : Nat × Nat × Nat => FG RJ22 e.1 e.2.1 e.2.2) ((50, 24, 5)) := FG.mk' (i := 23) (k := 5) (by decide) (by decide) rfl (by decide) (Or.inl q1048) (Or.inl rfl) (Or.inl rfl)
theorem flk_122_7 : (fun e : Nat × Nat × Nat => FG RJ22 e.1 e.2.1 e.2.2) ((17, 13, 9)) := FG.mk' (i := 12) (k := 9) (by decide) (by decide) rfl (by decide) (Or.inl q231) (Or.inl rfl) (Or.inl rfl)
theorem flk_122_8 : (fun e : Nat × Nat × Nat => FG RJ22 e.1 e.2.1 e.2.2) ((23, 13, 8)) := FG.mk' (i := 12) (k := 8) (by decide) (by decide) rfl (by decide) (Or.inl q230) (Or.inl rfl) (Or.inl rfl)
theorem flk_122_ok : ∀ e ∈ flk_122, FG RJ22 e.1 e.2.1 e.2.2 := List.forall_mem_cons.mpr ⟨flk_122_0, List.forall_mem_cons.mpr ⟨flk_122_1, List.forall_mem_cons.mpr ⟨flk_122_2, List.forall_mem_cons.mpr ⟨flk_122_3, List.forall_mem_cons.mpr ⟨flk_122_4, List.forall_mem_cons.mpr ⟨flk_122_5, List.forall_mem_cons.mpr ⟨flk_122_6, List.forall_mem_cons.mpr ⟨flk_122_7, List.forall_mem_cons.mpr ⟨flk_122_8, fun _ h => absurd h List.not_mem_nil⟩⟩⟩⟩⟩⟩⟩⟩⟩
def plk_122 : List (Nat × Nat × Nat × FieldType × Bool) := [(36, 21, 1, tyJ23 1, false), (26, 21, 0, tyJ23 0, false), (1, 21, 4, tyJ23 4, true), (13, 21, 3, tyJ23 3, false), (33, 21, 2, tyJ23 2, false)]
theorem plk_122_0 : (fun e : Nat × Nat × Nat × FieldType × Bool => PG RJ22 e.1 e.2.1 e.2.2.1 e.2.2.2.1 e.2.2.2.2) ((36, 21, 1, tyJ23 1, false)) := PG.mk' (i := 20) (k := 1) (by decide) (by decide) rfl (by decide) (Or.inl q774) (Or.inl rfl) rfl rfl (fun h => by cases h)
theorem plk_122_1 : (fun e : Nat × Nat × Nat × FieldType × Bool => PG RJ22 e.1 e.2.1 e.2.2.1 e.2.2.2.1 e.2.2.2.2) ((26, 21, 0, tyJ23 0, false)) := PG.mk' (i := 20) (k := 0) (by decide) (by decide) rfl (by decide) (Or.inl q773) (Or.inl rfl) rfl rfl (fun h => by cases h)
theorem plk_122_2 : (fun e : Nat × Nat × Nat × FieldType × Bool => PG RJ22 e.1 e.2.1 e.2.2.1 e.2.2.2.1 e.2.2.2.2) ((1, 21, 4, tyJ23 4, true)) := PG.mk' (i := 20) (k := 4) (by decide) (by decide) rfl (by decide) (Or.inl q777) (Or.inl rfl) rfl rfl (fun _ => rfl)
theorem plk_122_3 : (fun e : Nat × Nat × Nat × FieldType × Bool => PG RJ22 e.1 e.2.1 e.2.2.1 e.2.2.2.1 e.2.2.2.2) ((13, 21, 3, tyJ23 3, false)) := PG.mk' (i := 20) (k := 3) (by decide) (by decide) rfl (by decide) (Or.inl q776) (Or.inl rfl) rfl rfl (fun h => by cases h)
theorem plk_122_4 : (fun e : Nat × Nat × Nat × FieldType × Bool => PG RJ22 e.1 e.2.1 e.2.2.1 e.2.2.2.1 e.2.2.2.2) ((33, 21, 2, tyJ23 2, false)) := PG.mk' (i := 20) (k := 2) (by decide) (by decide) rfl (by decide) (Or.inl q775) (Or.inl rfl) rfl rfl (fun h => by cases h)
theorem plk_122_ok : ∀ e ∈ plk_122, PG RJ22 e.1 e.2.1 e.2.2.1 e.2.2.2.1 e.2.2.2.2 := List.forall_mem_cons.mpr ⟨plk_122_0, List.forall_mem_cons.mpr ⟨plk_122_1, List.forall_mem_cons.mpr ⟨plk_122_2, List.forall_mem_cons.mpr ⟨plk_122_3, List.forall_mem_cons.mpr ⟨plk_122_4, fun _ h => absurd h List.not_mem_nil⟩⟩⟩⟩⟩
def nlk_122 : List (Nat × Nat) := []
theorem nlk_122_ok : ∀ e ∈ nlk_122, NG RJ22 e.1 e.2 := fun _ h => absurd h List.not_mem_nil
def cls_122 : List (Nat × Nat × Nat) := []
theorem cls_122_ok : ∀ e ∈ cls_122, CS RJ22 (.invokestatic e.1) 3 0 e.2.1 (mth e.2.2) := fun _ h => absurd h List.not_mem_nil
def cli_122 : List (Nat × Nat × Nat) := [(7, 1, 354)]
theorem cli_122_0 : (fun e : Nat × Nat × Nat => ∀ tag, tag ≠ 0 → CS RJ22 (.invokespecial e.1) 3 tag e.2.1 (mth e.2.2)) ((7, 1, 354)) := fun tag ht => CS.I mk_J45_init q772 q163 rfl rfl ht (by decide +kernel) (by decide +kernel)
theorem cli_122_ok : ∀ e ∈ cli_122, ∀ tag, tag ≠ 0 → CS RJ22 (.invokespecial e.1) 3 tag e.2.1 (mth e.2.2) := List.forall_mem_cons.mpr ⟨cli_122_0, fun _ h => absurd h List.not_mem_nil⟩
def clv_122 : List (Instr × Nat × Nat × Nat × Nat) := []
theorem clv_122_ok : ∀ e ∈ clv_122, CS RJ22 e.1 e.2.1 e.2.2.1 e.2.2.2.1 (mth e.2.2.2.2) := fun _ h => absurd h List.not_mem_nil
def klk_122 : List (Nat × Nat) := []
theorem klk_122_ok : ∀ e ∈ klk_122, CG RJ22 e.1 e.2 := fun _ h => absurd h List.not_mem_nil
def ilk_122 : List (Nat × Nat) := []
theorem ilk_122_ok : ∀ e ∈ ilk_122, CG RJ22 e.1 e.2 := fun _ h => absurd h List.not_mem_nil
def slk_122 : List (Nat × Nat) := []
theorem slk_122_ok : ∀ e ∈ slk_122, GS RJ22 e.1 e.2 := fun _ h => absurd h List.not_mem_nil
def alk_122 : List (Nat × Nat) := []
theorem alk_122_ok : ∀ e ∈ alk_122, AG RJ22 e.1 e.2 := fun _ h => absurd h List.not_mem_nil
def dlk_122 : List (Nat × Int) := []
theorem dlk_122_ok : ∀ e ∈ dlk_122, Cond.constant RJ22 e.1 (iI e.2) ∈ lw_all := fun _ h => absurd h List.not_mem_nil
def d2k_122 : List (Nat × Int) := []
theorem d2k_122_ok : ∀ e ∈ d2k_122, Cond.constantLong RJ22 e.1 (lI e.2) ∈ lw_all := fun _ h => absurd h List.not_mem_nil
def fck_122 : List (Nat × UInt32) := []
theorem fck_122_ok : ∀ e ∈ fck_122, Cond.constantFloat RJ22 e.1 e.2 ∈ lw_all := fun _ h => absurd h List.not_mem_nil
def flk_123 : List (Nat × Nat × Nat) := []
theorem flk_123_ok : ∀ e ∈ flk_123, FG RJ23 e.1 e.2.1 e.2.2 := fun _ h => absurd h List.not_mem_nil
def plk_123 : List (Nat × Nat × Nat × FieldType × Bool) := []
theorem plk_123_ok : ∀ e ∈ plk_123, PG RJ23 e.1 e.2.1 e.2.2.1 e.2.2.2.1 e.2.2.2.2 := fun _ h => absurd h List.not_mem_nil
def nlk_123 : List (Nat × Nat) := []
theorem nlk_123_ok : ∀ e ∈ nlk_123, NG RJ23 e.1 e.2 := fun _ h => absurd h List.not_mem_nil
def cls_123 : List (Nat × Nat × Nat) := []
theorem cls_123_ok : ∀ e ∈ cls_123, CS RJ23 (.invokestatic e.1) 3 0 e.2.1 (mth e.2.2) := fun _ h => absurd h List.not_mem_nil
def cli_123 : List (Nat × Nat × Nat) := [(1, 3, 315)]
theorem cli_123_0 : (fun e : Nat × Nat × Nat => ∀ tag, tag ≠ 0 → CS RJ23 (.invokespecial e.1) 3 tag e.2.1 (mth e.2.2)) ((1, 3, 315)) := fun tag ht => CS.I mk_J22_init q769 q770 rfl rfl ht (by decide +kernel) (by decide +kernel)
theorem cli_123_ok : ∀ e ∈ cli_123, ∀ tag, tag ≠ 0 → CS RJ23 (.invokespecial e.1) 3 tag e.2.1 (mth e.2.2) := List.forall_mem_cons.mpr ⟨cli_123_0, fun _ h => absurd h List.not_mem_nil⟩
def clv_123 : List (Instr × Nat × Nat × Nat × Nat) := [((.invokevirtual 7), 3, 21, 1, 314), ((.invokevirtual 13), 3, 24, 1, 331)]
theorem clv_123_0 : (fun e : Instr × Nat × Nat × Nat × Nat => CS RJ23 e.1 e.2.1 e.2.2.1 e.2.2.2.1 (mth e.2.2.2.2)) (((.invokevirtual 7), 3, 21, 1, 314)) := CS.U (i := 20) (owner := "java/util/LinkedHashMap$LinkedHashIterator") (x := ⟨"java/util/LinkedHashMap$LinkedKeyIterator", "nextNode", "()Ljava/util/LinkedHashMap$Entry;"⟩) mk_J22_nextNode ⟨by decide, Or.inl rfl, rfl⟩ rfl q549 q550 q553 q552 (by decide +kernel) (by decide +kernel)
theorem clv_123_1 : (fun e : Instr × Nat × Nat × Nat × Nat => CS RJ23 e.1 e.2.1 e.2.2.1 e.2.2.2.1 (mth e.2.2.2.2)) (((.invokevirtual 13), 3, 24, 1, 331)) := CS.U (i := 23) (owner := "java/util/HashMap$Node") (x := ⟨"java/util/LinkedHashMap$Entry", "getKey", "()Ljava/lang/Object;"⟩) mk_J31_getKey ⟨by decide, Or.inl rfl, rfl⟩ rfl q555 q556 q560 q559 (by decide +kernel) (by decide +kernel)
theorem clv_123_ok : ∀ e ∈ clv_123, CS RJ23 e.1 e.2.1 e.2.2.1 e.2.2.2.1 (mth e.2.2.2.2) := List.forall_mem_cons.mpr ⟨clv_123_0, List.forall_mem_cons.mpr ⟨clv_123_1, fun _ h => absurd h List.not_mem_nil⟩⟩
def klk_123 : List (Nat × Nat) := []
theorem klk_123_ok : ∀ e ∈ klk_123, CG RJ23 e.1 e.2 := fun _ h => absurd h List.not_mem_nil
def ilk_123 : List (Nat × Nat) := []
theorem ilk_123_ok : ∀ e ∈ ilk_123, CG RJ23 e.1 e.2 := fun _ h => absurd h List.not_mem_nil
def slk_123 : List (Nat × Nat) := []
theorem slk_123_ok : ∀ e ∈ slk_123, GS RJ23 e.1 e.2 := fun _ h => absurd h List.not_mem_nil
def alk_123 : List (Nat × Nat) := []
theorem alk_123_ok : ∀ e ∈ alk_123, AG RJ23 e.1 e.2 := fun _ h => absurd h List.not_mem_nil
def dlk_123 : List (Nat × Int) := []
theorem dlk_123_ok : ∀ e ∈ dlk_123, Cond.constant RJ23 e.1 (iI e.2) ∈ lw_all := fun _ h => absurd h List.not_mem_nil
def d2k_123 : List (Nat × Int) := []
theorem d2k_123_ok : ∀ e ∈ d2k_123, Cond.constantLong RJ23 e.1 (lI e.2) ∈ lw_all := fun _ h => absurd h List.not_mem_nil
def fck_123 : List (Nat × UInt32) := []
theorem fck_123_ok : ∀ e ∈ fck_123, Cond.constantFloat RJ23 e.1 e.2 ∈ lw_all := fun _ h => absurd h List.not_mem_nil
def flk_125 : List (Nat × Nat × Nat) := [(1, 22, 1), (13, 22, 0)]
theorem flk_125_0 : (fun e : Nat × Nat × Nat => FG RJ25 e.1 e.2.1 e.2.2) ((1, 22, 1)) := FG.mk' (i := 21) (k := 1) (by decide) (by decide) rfl (by decide) (Or.inl q812) (Or.inl rfl) (Or.inl rfl)
theorem flk_125_1 : (fun e : Nat × Nat × Nat => FG RJ25 e.1 e.2.1 e.2.2) ((13, 22, 0)) := FG.mk' (i := 21) (k := 0) (by decide) (by decide) rfl (by decide) (Or.inl q811) (Or.inl rfl) (Or.inl rfl)
theorem flk_125_ok : ∀ e ∈ flk_125, FG RJ25 e.1 e.2.1 e.2.2 := List.forall_mem_cons.mpr ⟨flk_125_0, List.forall_mem_cons.mpr ⟨flk_125_1, fun _ h => absurd h List.not_mem_nil⟩⟩
def plk_125 : List (Nat × Nat × Nat × FieldType × Bool) := [(1, 22, 1, tyJ25 1, true), (13, 22, 0, tyJ25 0, true)]
theorem plk_125_0 : (fun e : Nat × Nat × Nat × FieldType × Bool => PG RJ25 e.1 e.2.1 e.2.2.1 e.2.2.2.1 e.2.2.2.2) ((1, 22, 1, tyJ25 1, true)) := PG.mk' (i := 21) (k := 1) (by decide) (by decide) rfl (by decide) (Or.inl q812) (Or.inl rfl) rfl rfl (fun _ => rfl)
theorem plk_125_1 : (fun e : Nat × Nat × Nat × FieldType × Bool => PG RJ25 e.1 e.2.1 e.2.2.1 e.2.2.2.1 e.2.2.2.2) ((13, 22, 0, tyJ25 0, true)) := PG.mk' (i := 21) (k := 0) (by decide) (by decide) rfl (by decide) (Or.inl q811) (Or.inl rfl) rfl rfl (fun _ => rfl)
theorem plk_125_ok : ∀ e ∈ plk_125, PG RJ25 e.1 e.2.1 e.2.2.1 e.2.2.2.1 e.2.2.2.2 := List.forall_mem_cons.mpr ⟨plk_125_0, List.forall_mem_cons.mpr ⟨plk_125_1, fun _ h => absurd h List.not_mem_nil⟩⟩
def nlk_125 : List (Nat × Nat) := [(26, 20)]
theorem nlk_125_0 : (fun e : Nat × Nat => NG RJ25 e.1 e.2) ((26, 20)) := ⟨by decide, by decide, _, rfl, q764, q765, q127⟩
theorem nlk_125_ok : ∀ e ∈ nlk_125, NG RJ25 e.1 e.2 := List.forall_mem_cons.mpr ⟨nlk_125_0, fun _ h => absurd h List.not_mem_nil⟩
def cls_125 : List (Nat × Nat × Nat) := []
theorem cls_125_ok : ∀ e ∈ cls_125, CS RJ25 (.invokestatic e.1) 3 0 e.2.1 (mth e.2.2) := fun _ h => absurd h List.not_mem_nil
def cli_125 : List (Nat × Nat × Nat) := [(28, 3, 317), (7, 1, 297)]
theorem cli_125_0 : (fun e : Nat × Nat × Nat => ∀ tag, tag ≠ 0 → CS RJ25 (.invokespecial e.1) 3 tag e.2.1 (mth e.2.2)) ((28, 3, 317)) := fun tag ht => CS.I mk_J23_init q766 q767 rfl rfl ht (by decide +kernel) (by decide +kernel)
theorem cli_125_1 : (fun e : Nat × Nat × Nat => ∀ tag, tag ≠ 0 → CS RJ25 (.invokespecial e.1) 3 tag e.2.1 (mth e.2.2)) ((7, 1, 297)) := fun tag ht => CS.I mk_J13_init q810 q612 rfl rfl ht (by decide +kernel) (by decide +kernel)
theorem cli_125_ok : ∀ e ∈ cli_125, ∀ tag, tag ≠ 0 → CS RJ25 (.invokespecial e.1) 3 tag e.2.1 (mth e.2.2) := List.forall_mem_cons.mpr ⟨cli_125_0, List.forall_mem_cons.mpr ⟨cli_125_1, fun _ h => absurd h List.not_mem_nil⟩⟩
def clv_125 : List (Instr × Nat × Nat × Nat × Nat) := []
theorem clv_125_ok : ∀ e ∈ clv_125, CS RJ25 e.1 e.2.1 e.2.2.1 e.2.2.2.1 (mth e.2.2.2.2) := fun _ h => absurd h List.not_mem_nil
def klk_125 : List (Nat × Nat) := []
theorem klk_125_ok : ∀ e ∈ klk_125, CG RJ25 e.1 e.2 := fun _ h => absurd h List.not_mem_nil
def ilk_125 : List (Nat × Nat) := []
theorem ilk_125_ok : ∀ e ∈ ilk_125, CG RJ25 e.1 e.2 := fun _ h => absurd h List.not_mem_nil
def slk_125 : List (Nat × Nat) := []
theorem slk_125_ok : ∀ e ∈ slk_125, GS RJ25 e.1 e.2 := fun _ h => absurd h List.not_mem_nil
def alk_125 : List (Nat × Nat) := []
theorem alk_125_ok : ∀ e ∈ alk_125, AG RJ25 e.1 e.2 := fun _ h => absurd h List.not_mem_nil
def dlk_125 : List (Nat × Int) := []
theorem dlk_125_ok : ∀ e ∈ dlk_125, Cond.constant RJ25 e.1 (iI e.2) ∈ lw_all := fun _ h => absurd h List.not_mem_nil
def d2k_125 : List (Nat × Int) := []
theorem d2k_125_ok : ∀ e ∈ d2k_125, Cond.constantLong RJ25 e.1 (lI e.2) ∈ lw_all := fun _ h => absurd h List.not_mem_nil
def fck_125 : List (Nat × UInt32) := []
theorem fck_125_ok : ∀ e ∈ fck_125, Cond.constantFloat RJ25 e.1 e.2 ∈ lw_all := fun _ h => absurd h List.not_mem_nil
def flk_127 : List (Nat × Nat × Nat) := [(26, 23, 0), (1, 23, 3), (13, 18, 5), (19, 23, 2)]
theorem flk_127_0 : (fun e : Nat × Nat × Nat => FG RJ27 e.1 e.2.1 e.2.2) ((26, 23, 0)) := FG.mk' (i := 22) (k := 0) (by decide) (by decide) rfl (by decide) (Or.inl q880) (Or.inl rfl) (Or.inl rfl)
theorem flk_127_1 : (fun e : Nat × Nat × Nat => FG RJ27 e.1 e.2.1 e.2.2) ((1, 23, 3)) := FG.mk' (i := 22) (k := 3) (by decide) (by decide) rfl (by decide) (Or.inl q883) (Or.inl rfl) (Or.inl rfl)
theorem flk_127_2 : (fun e : Nat × Nat × Nat => FG RJ27 e.1 e.2.1 e.2.2) ((13, 18, 5)) := FG.mk' (i := 17) (k := 5) (by decide) (by decide) rfl (by decide) (Or.inr ⟨_, q1905⟩) (Or.inl rfl) (Or.inl rfl)
theorem flk_127_3 : (fun e : Nat × Nat × Nat => FG RJ27 e.1 e.2.1 e.2.2) ((19, 23, 2)) := FG.mk' (i := 22) (k := 2) (by decide) (by decide) rfl (by decide) (Or.inl q882) (Or.inl rfl) (Or.inl rfl)
theorem flk_127_ok : ∀ e ∈ flk_127, FG RJ27 e.1 e.2.1 e.2.2 := List.forall_mem_cons.mpr ⟨flk_127_0, List.forall_mem_cons.mpr ⟨flk_127_1, List.forall_mem_cons.mpr ⟨flk_127_2, List.forall_mem_cons.mpr ⟨flk_127_3, fun _ h => absurd h List.not_mem_nil⟩⟩⟩⟩
def plk_127 : List (Nat × Nat × Nat × FieldType × Bool) := [(26, 23, 0, tyJ28 0, false), (22, 23, 1, tyJ28 1, false), (1, 23, 3, tyJ28 3, true), (19, 23, 2, tyJ28 2, false)]
theorem plk_127_0 : (fun e : Nat × Nat × Nat × FieldType × Bool => PG RJ27 e.1 e.2.1 e.2.2.1 e.2.2.2.1 e.2.2.2.2) ((26, 23, 0, tyJ28 0, false)) := PG.mk' (i := 22) (k := 0) (by decide) (by decide) rfl (by decide) (Or.inl q880) (Or.inl rfl) rfl rfl (fun h => by cases h)
theorem plk_127_1 : (fun e : Nat × Nat × Nat × FieldType × Bool => PG RJ27 e.1 e.2.1 e.2.2.1 e.2.2.2.1 e.2.2.2.2) ((22, 23, 1, tyJ28 1, false)) := PG.mk' (i := 22) (k := 1) (by decide) (by decide) rfl (by decide) (Or.inl q881) (Or.inl rfl) rfl rfl (fun h => by cases h)
theorem plk_127_2 : (fun e : Nat × Nat × Nat × FieldType × Bool => PG RJ27 e.1 e.2.1 e.2.2.1 e.2.2.2.1 e.2.2.2.2) ((1, 23, 3, tyJ28 3, true)) := PG.mk' (i := 22) (k := 3) (by decide) (by decide) rfl (by decide) (Or.inl q883) (Or.inl rfl) rfl rfl (fun _ => rfl)
theorem plk_127_3 : (fun e : Nat × Nat × Nat × FieldType × Bool => PG RJ27 e.1 e.2.1 e.2.2.1 e.2.2.2.1 e.2.2.2.2) ((19, 23, 2, tyJ28 2, false)) := PG.mk' (i := 22) (k := 2) (by decide) (by decide) rfl (by decide) (Or.inl q882) (Or.inl rfl) rfl rfl (fun h => by cases h)
theorem plk_127_ok : ∀ e ∈ plk_127, PG RJ27 e.1 e.2.1 e.2.2.1 e.2.2.2.1 e.2.2.2.2 := List.forall_mem_cons.mpr ⟨plk_127_0, List.forall_mem_cons.mpr ⟨plk_127_1, List.forall_mem_cons.mpr ⟨plk_127_2, List.forall_mem_cons.mpr ⟨plk_127_3, fun _ h => absurd h List.not_mem_nil⟩⟩⟩⟩
def nlk_127 : List (Nat × Nat) := []
theorem nlk_127_ok : ∀ e ∈ nlk_127, NG RJ27 e.1 e.2 := fun _ h => absurd h List.not_mem_nil
def cls_127 : List (Nat × Nat × Nat) := [(35, 1, 280)]
theorem cls_127_0 : (fun e : Nat × Nat × Nat => CS RJ27 (.invokestatic e.1) 3 0 e.2.1 (mth e.2.2)) ((35, 1, 280)) := CS.S mk_J12_successor q590 q591 (by decide +kernel) (by decide +kernel)
theorem cls_127_ok : ∀ e ∈ cls_127, CS RJ27 (.invokestatic e.1) 3 0 e.2.1 (mth e.2.2) := List.forall_mem_cons.mpr ⟨cls_127_0, fun _ h => absurd h List.not_mem_nil⟩
def cli_127 : List (Nat × Nat × Nat) := [(7, 1, 354)]
theorem cli_127_0 : (fun e : Nat × Nat × Nat => ∀ tag, tag ≠ 0 → CS RJ27 (.invokespecial e.1) 3 tag e.2.1 (mth e.2.2)) ((7, 1, 354)) := fun tag ht => CS.I mk_J45_init q879 q163 rfl rfl ht (by decide +kernel) (by decide +kernel)
theorem cli_127_ok : ∀ e ∈ cli_127, ∀ tag, tag ≠ 0 → CS RJ27 (.invokespecial e.1) 3 tag e.2.1 (mth e.2.2) := List.forall_mem_cons.mpr ⟨cli_127_0, fun _ h => absurd h List.not_mem_nil⟩
def clv_127 : List (Instr × Nat × Nat × Nat × Nat) := []
theorem clv_127_ok : ∀ e ∈ clv_127, CS RJ27 e.1 e.2.1 e.2.2.1 e.2.2.2.1 (mth e.2.2.2.2) := fun _ h => absurd h List.not_mem_nil
def klk_127 : List (Nat × Nat) := []
theorem klk_127_ok : ∀ e ∈ klk_127, CG RJ27 e.1 e.2 := fun _ h => absurd h List.not_mem_nil
def ilk_127 : List (Nat × Nat) := []
theorem ilk_127_ok : ∀ e ∈ ilk_127, CG RJ27 e.1 e.2 := fun _ h => absurd h List.not_mem_nil
def slk_127 : List (Nat × Nat) := []
theorem slk_127_ok : ∀ e ∈ slk_127, GS RJ27 e.1 e.2 := fun _ h => absurd h List.not_mem_nil
def alk_127 : List (Nat × Nat) := []
theorem alk_127_ok : ∀ e ∈ alk_127, AG RJ27 e.1 e.2 := fun _ h => absurd h List.not_mem_nil
def dlk_127 : List (Nat × Int) := []
theorem dlk_127_ok : ∀ e ∈ dlk_127, Cond.constant RJ27 e.1 (iI e.2) ∈ lw_all := fun _ h => absurd h List.not_mem_nil
def d2k_127 : List (Nat × Int) := []
theorem d2k_127_ok : ∀ e ∈ d2k_127, Cond.constantLong RJ27 e.1 (lI e.2) ∈ lw_all := fun _ h => absurd h List.not_mem_nil
def fck_127 : List (Nat × UInt32) := []
theorem fck_127_ok : ∀ e ∈ fck_127, Cond.constantFloat RJ27 e.1 e.2 ∈ lw_all := fun _ h => absurd h List.not_mem_nil
def flk_128 : List (Nat × Nat × Nat) := [(13, 25, 1)]
theorem flk_128_0 : (fun e : Nat × Nat × Nat => FG RJ28 e.1 e.2.1 e.2.2) ((13, 25, 1)) := FG.mk' (i := 24) (k := 1) (by decide) (by decide) rfl (by decide) (Or.inl q1998) (Or.inl rfl) (Or.inl rfl)
theorem flk_128_ok : ∀ e ∈ flk_128, FG RJ28 e.1 e.2.1 e.2.2 := List.forall_mem_cons.mpr ⟨flk_128_0, fun _ h => absurd h List.not_mem_nil⟩
def plk_128 : List (Nat × Nat × Nat × FieldType × Bool) := []
theorem plk_128_ok : ∀ e ∈ plk_128, PG RJ28 e.1 e.2.1 e.2.2.1 e.2.2.2.1 e.2.2.2.2 := fun _ h => absurd h List.not_mem_nil
def nlk_128 : List (Nat × Nat) := []
theorem nlk_128_ok : ∀ e ∈ nlk_128, NG RJ28 e.1 e.2 := fun _ h => absurd h List.not_mem_nil
def cls_128 : List (Nat × Nat × Nat) := []
theorem cls_128_ok : ∀ e ∈ cls_128, CS RJ28 (.invokestatic e.1) 3 0 e.2.1 (mth e.2.2) := fun _ h => absurd h List.not_mem_nil
def cli_128 : List (Nat × Nat × Nat) := [(1, 3, 322)]
theorem cli_128_0 : (fun e : Nat × Nat × Nat => ∀ tag, tag ≠ 0 → CS RJ28 (.invokespecial e.1) 3 tag e.2.1 (mth e.2.2)) ((1, 3, 322)) := fun tag ht => CS.I mk_J27_init q876 q877 rfl rfl ht (by decide +kernel) (by decide +kernel)
theorem cli_128_ok : ∀ e ∈ cli_128, ∀ tag, tag ≠ 0 → CS RJ28 (.invokespecial e.1) 3 tag e.2.1 (mth e.2.2) := List.forall_mem_cons.mpr ⟨cli_128_0, fun _ h => absurd h List.not_mem_nil⟩
def clv_128 : List (Instr × Nat × Nat × Nat × Nat) := [((.invokevirtual 7), 3, 23, 1, 321)]
theorem clv_128_0 : (fun e : Instr × Nat × Nat × Nat × Nat => CS RJ28 e.1 e.2.1 e.2.2.1 e.2.2.2.1 (mth e.2.2.2.2)) (((.invokevirtual 7), 3, 23, 1, 321)) := CS.U (i := 22) (owner := "java/util/TreeMap$PrivateEntryIterator") (x := ⟨"java/util/TreeMap$ValueIterator", "nextEntry", "()Ljava/util/TreeMap$Entry;"⟩) mk_J27_nextEntry ⟨by decide, Or.inl rfl, rfl⟩ rfl q584 q585 q588 q587 (by decide +kernel) (by decide +kernel)
theorem clv_128_ok : ∀ e ∈ clv_128, CS RJ28 e.1 e.2.1 e.2.2.1 e.2.2.2.1 (mth e.2.2.2.2) := List.forall_mem_cons.mpr ⟨clv_128_0, fun _ h => absurd h List.not_mem_nil⟩
def klk_128 : List (Nat × Nat) := []
theorem klk_128_ok : ∀ e ∈ klk_128, CG RJ28 e.1 e.2 := fun _ h => absurd h List.not_mem_nil
def ilk_128 : List (Nat × Nat) := []
theorem ilk_128_ok : ∀ e ∈ ilk_128, CG RJ28 e.1 e.2 := fun _ h => absurd h List.not_mem_nil
def slk_128 : List (Nat × Nat) := []
theorem slk_128_ok : ∀ e ∈ slk_128, GS RJ28 e.1 e.2 := fun _ h => absurd h List.not_mem_nil
def alk_128 : List (Nat × Nat) := []
theorem alk_128_ok : ∀ e ∈ alk_128, AG RJ28 e.1 e.2 := fun _ h => absurd h List.not_mem_nil
def dlk_128 : List (Nat × Int) := []
theorem dlk_128_ok : ∀ e ∈ dlk_128, Cond.constant RJ28 e.1 (iI e.2) ∈ lw_all := fun _ h => absurd h List.not_mem_nil
def d2k_128 : List (Nat × Int) := []
theorem d2k_128_ok : ∀ e ∈ d2k_128, Cond.constantLong RJ28 e.1 (lI e.2) ∈ lw_all := fun _ h => absurd h List.not_mem_nil
def fck_128 : List (Nat × UInt32) := []
theorem fck_128_ok : ∀ e ∈ fck_128, Cond.constantFloat RJ28 e.1 e.2 ∈ lw_all := fun _ h => absurd h List.not_mem_nil
def flk_129 : List (Nat × Nat × Nat) := []
theorem flk_129_ok : ∀ e ∈ flk_129, FG RJ29 e.1 e.2.1 e.2.2 := fun _ h => absurd h List.not_mem_nil
def plk_129 : List (Nat × Nat × Nat × FieldType × Bool) := []
theorem plk_129_ok : ∀ e ∈ plk_129, PG RJ29 e.1 e.2.1 e.2.2.1 e.2.2.2.1 e.2.2.2.2 := fun _ h => absurd h List.not_mem_nil
def nlk_129 : List (Nat × Nat) := []
theorem nlk_129_ok : ∀ e ∈ nlk_129, NG RJ29 e.1 e.2 := fun _ h => absurd h List.not_mem_nil
def cls_129 : List (Nat × Nat × Nat) := [(88, 1, 327), (92, 2, 335), (38, 2, 334), (95, 4, 328)]
theorem cls_129_0 : (fun e : Nat × Nat × Nat => CS RJ29 (.invokestatic e.1) 3 0 e.2.1 (mth e.2.2)) ((88, 1, 327)) := CS.S mk_J29_canEncode_2 q2701 q2702 (by decide +kernel) (by decide +kernel)
theorem cls_129_1 : (fun e : Nat × Nat × Nat => CS RJ29 (.invokestatic e.1) 3 0 e.2.1 (mth e.2.2)) ((92, 2, 335)) := CS.S mk_J33_max q2704 q1527 (by decide +kernel) (by decide +kernel)
theorem cls_129_2 : (fun e : Nat × Nat × Nat => CS RJ29 (.invokestatic e.1) 3 0 e.2.1 (mth e.2.2)) ((38, 2, 334)) := CS.S mk_J33_min q1193 q1194 (by decide +kernel) (by decide +kernel)
theorem cls_129_3 : (fun e : Nat × Nat × Nat => CS RJ29 (.invokestatic e.1) 3 0 e.2.1 (mth e.2.2)) ((95, 4, 328)) := CS.S mk_J29_indexOfChar q2705 q2706 (by decide +kernel) (by decide +kernel)
theorem cls_129_ok : ∀ e ∈ cls_129, CS RJ29 (.invokestatic e.1) 3 0 e.2.1 (mth e.2.2) := List.forall_mem_cons.mpr ⟨cls_129_0, List.forall_mem_cons.mpr ⟨cls_129_1, List.forall_mem_cons.mpr ⟨cls_129_2, List.forall_mem_cons.mpr ⟨cls_129_3, fun _ h => absurd h List.not_mem_nil⟩⟩⟩⟩
def cli_129 : List (Nat × Nat × Nat) := []
theorem cli_129_ok : ∀ e ∈ cli_129, ∀ tag, tag ≠ 0 → CS RJ29 (.invokespecial e.1) 3 tag e.2.1 (mth e.2.2) := fun _ h => absurd h List.not_mem_nil
def clv_129 : List (Instr × Nat × Nat × Nat × Nat) := []
theorem clv_129_ok : ∀ e ∈ clv_129, CS RJ29 e.1 e.2.1 e.2.2.1 e.2.2.2.1 (mth e.2.2.2.2) := fun _ h => absurd h List.not_mem_nil
def klk_129 : List (Nat × Nat) := []
theorem klk_129_ok : ∀ e ∈ klk_129, CG RJ29 e.1 e.2 := fun _ h => absurd h List.not_mem_nil
def ilk_129 : List (Nat × Nat) := []
theorem ilk_129_ok : ∀ e ∈ ilk_129, CG RJ29 e.1 e.2 := fun _ h => absurd h List.not_mem_nil
def slk_129 : List (Nat × Nat) := []
theorem slk_129_ok : ∀ e ∈ slk_129, GS RJ29 e.1 e.2 := fun _ h => absurd h List.not_mem_nil
def alk_129 : List (Nat × Nat) := []
theorem alk_129_ok : ∀ e ∈ alk_129, AG RJ29 e.1 e.2 := fun _ h => absurd h List.not_mem_nil
def dlk_129 : List (Nat × Int) := []
theorem dlk_129_ok : ∀ e ∈ dlk_129, Cond.constant RJ29 e.1 (iI e.2) ∈ lw_all := fun _ h => absurd h List.not_mem_nil
def d2k_129 : List (Nat × Int) := []
theorem d2k_129_ok : ∀ e ∈ d2k_129, Cond.constantLong RJ29 e.1 (lI e.2) ∈ lw_all := fun _ h => absurd h List.not_mem_nil
def fck_129 : List (Nat × UInt32) := []
theorem fck_129_ok : ∀ e ∈ fck_129, Cond.constantFloat RJ29 e.1 e.2 ∈ lw_all := fun _ h => absurd h List.not_mem_nil
def flk_130 : List (Nat × Nat × Nat) := []
theorem flk_130_ok : ∀ e ∈ flk_130, FG RJ30 e.1 e.2.1 e.2.2 := fun _ h => absurd h List.not_mem_nil
def plk_130 : List (Nat × Nat × Nat × FieldType × Bool) := []
theorem plk_130_ok : ∀ e ∈ plk_130, PG RJ30 e.1 e.2.1 e.2.2.1 e.2.2.2.1 e.2.2.2.2 := fun _ h => absurd h List.not_mem_nil
def nlk_130 : List (Nat × Nat) := []
theorem nlk_130_ok : ∀ e ∈ nlk_130, NG RJ30 e.1 e.2 := fun _ h => absurd h List.not_mem_nil
def cls_130 : List (Nat × Nat × Nat) := [(194, 2, 335), (201, 2, 330)]
theorem cls_130_0 : (fun e : Nat × Nat × Nat => CS RJ30 (.invokestatic e.1) 3 0 e.2.1 (mth e.2.2)) ((194, 2, 335)) := CS.S mk_J33_max q1526 q1527 (by decide +kernel) (by decide +kernel)
theorem cls_130_1 : (fun e : Nat × Nat × Nat => CS RJ30 (.invokestatic e.1) 3 0 e.2.1 (mth e.2.2)) ((201, 2, 330)) := CS.S mk_J30_hugeLength q1530 q1531 (by decide +kernel) (by decide +kernel)
theorem cls_130_ok : ∀ e ∈ cls_130, CS RJ30 (.invokestatic e.1) 3 0 e.2.1 (mth e.2.2) := List.forall_mem_cons.mpr ⟨cls_130_0, List.forall_mem_cons.mpr ⟨cls_130_1, fun _ h => absurd h List.not_mem_nil⟩⟩
def cli_130 : List (Nat × Nat × Nat) := []
theorem cli_130_ok : ∀ e ∈ cli_130, ∀ tag, tag ≠ 0 → CS RJ30 (.invokespecial e.1) 3 tag e.2.1 (mth e.2.2) := fun _ h => absurd h List.not_mem_nil
def clv_130 : List (Instr × Nat × Nat × Nat × Nat) := []
theorem clv_130_ok : ∀ e ∈ clv_130, CS RJ30 e.1 e.2.1 e.2.2.1 e.2.2.2.1 (mth e.2.2.2.2) := fun _ h => absurd h List.not_mem_nil
def klk_130 : List (Nat × Nat) := []
theorem klk_130_ok : ∀ e ∈ klk_130, CG RJ30 e.1 e.2 := fun _ h => absurd h List.not_mem_nil
def ilk_130 : List (Nat × Nat) := []
theorem ilk_130_ok : ∀ e ∈ ilk_130, CG RJ30 e.1 e.2 := fun _ h => absurd h List.not_mem_nil
def slk_130 : List (Nat × Nat) := []
theorem slk_130_ok : ∀ e ∈ slk_130, GS RJ30 e.1 e.2 := fun _ h => absurd h List.not_mem_nil
def alk_130 : List (Nat × Nat) := []
theorem alk_130_ok : ∀ e ∈ alk_130, AG RJ30 e.1 e.2 := fun _ h => absurd h List.not_mem_nil
def dlk_130 : List (Nat × Int) := [(200, 2147483639)]
theorem dlk_130_0 : (fun e : Nat × Int => Cond.constant RJ30 e.1 (iI e.2) ∈ lw_all) ((200, 2147483639)) := q1529
theorem dlk_130_ok : ∀ e ∈ dlk_130, Cond.constant RJ30 e.1 (iI e.2) ∈ lw_all := List.forall_mem_cons.mpr ⟨dlk_130_0, fun _ h => absurd h List.not_mem_nil⟩
def d2k_130 : List (Nat × Int) := []
theorem d2k_130_ok : ∀ e ∈ d2k_130, Cond.constantLong RJ30 e.1 (lI e.2) ∈ lw_all := fun _ h => absurd h List.not_mem_nil
def fck_130 : List (Nat × UInt32) := []
theorem fck_130_ok : ∀ e ∈ fck_130, Cond.constantFloat RJ30 e.1 e.2 ∈ lw_all := fun _ h => absurd h List.not_mem_nil
def flk_131 : List (Nat × Nat × Nat) := [(13, 24, 1)]
theorem flk_131_0 : (fun e : Nat × Nat × Nat => FG RJ31 e.1 e.2.1 e.2.2) ((13, 24, 1)) := FG.mk' (i := 23) (k := 1) (by decide) (by decide) rfl (by decide) (Or.inl q1055) (Or.inl rfl) (Or.inl rfl)
theorem flk_131_ok : ∀ e ∈ flk_131, FG RJ31 e.1 e.2.1 e.2.2 := List.forall_mem_cons.mpr ⟨flk_131_0, fun _ h => absurd h List.not_mem_nil⟩
def plk_131 : List (Nat × Nat × Nat × FieldType × Bool) := [(7, 24, 0, tyJ32 0, true), (13, 24, 1, tyJ32 1, true), (17, 24, 2, tyJ32 2, false), (20, 24, 3, tyJ32 3, false)]
theorem plk_131_0 : (fun e : Nat × Nat × Nat × FieldType × Bool => PG RJ31 e.1 e.2.1 e.2.2.1 e.2.2.2.1 e.2.2.2.2) ((7, 24, 0, tyJ32 0, true)) := PG.mk' (i := 23) (k := 0) (by decide) (by decide) rfl (by decide) (Or.inl q1049) (Or.inl rfl) rfl rfl (fun _ => rfl)
theorem plk_131_1 : (fun e : Nat × Nat × Nat × FieldType × Bool => PG RJ31 e.1 e.2.1 e.2.2.1 e.2.2.2.1 e.2.2.2.2) ((13, 24, 1, tyJ32 1, true)) := PG.mk' (i := 23) (k := 1) (by decide) (by decide) rfl (by decide) (Or.inl q1055) (Or.inl rfl) rfl rfl (fun _ => rfl)
theorem plk_131_2 : (fun e : Nat × Nat × Nat × FieldType × Bool => PG RJ31 e.1 e.2.1 e.2.2.1 e.2.2.2.1 e.2.2.2.2) ((17, 24, 2, tyJ32 2, false)) := PG.mk' (i := 23) (k := 2) (by decide) (by decide) rfl (by decide) (Or.inl q1062) (Or.inl rfl) rfl rfl (fun h => by cases h)
theorem plk_131_3 : (fun e : Nat × Nat × Nat × FieldType × Bool => PG RJ31 e.1 e.2.1 e.2.2.1 e.2.2.2.1 e.2.2.2.2) ((20, 24, 3, tyJ32 3, false)) := PG.mk' (i := 23) (k := 3) (by decide) (by decide) rfl (by decide) (Or.inl q1067) (Or.inl rfl) rfl rfl (fun h => by cases h)
theorem plk_131_ok : ∀ e ∈ plk_131, PG RJ31 e.1 e.2.1 e.2.2.1 e.2.2.2.1 e.2.2.2.2 := List.forall_mem_cons.mpr ⟨plk_131_0, List.forall_mem_cons.mpr ⟨plk_131_1, List.forall_mem_cons.mpr ⟨plk_131_2, List.forall_mem_cons.mpr ⟨plk_131_3, fun _ h => absurd h List.not_mem_nil⟩⟩⟩⟩
def nlk_131 : List (Nat × Nat) := []
theorem nlk_131_ok : ∀ e ∈ nlk_131, NG RJ31 e.1 e.2 := fun _ h => absurd h List.not_mem_nil
def cls_131 : List (Nat × Nat × Nat) := []
theorem cls_131_ok : ∀ e ∈ cls_131, CS RJ31 (.invokestatic e.1) 3 0 e.2.1 (mth e.2.2) := fun _ h => absurd h List.not_mem_nil
def cli_131 : List (Nat × Nat × Nat) := [(1, 1, 354)]
theorem cli_131_0 : (fun e : Nat × Nat × Nat => ∀ tag, tag ≠ 0 → CS RJ31 (.invokespecial e.1) 3 tag e.2.1 (mth e.2.2)) ((1, 1, 354)) := fun tag ht => CS.I mk_J45_init q1044 q163 rfl rfl ht (by decide +kernel) (by decide +kernel)
theorem cli_131_ok : ∀ e ∈ cli_131, ∀ tag, tag ≠ 0 → CS RJ31 (.invokespecial e.1) 3 tag e.2.1 (mth e.2.2) := List.forall_mem_cons.mpr ⟨cli_131_0, fun _ h => absurd h List.not_mem_nil⟩
def clv_131 : List (Instr × Nat × Nat × Nat × Nat) := []
theorem clv_131_ok : ∀ e ∈ clv_131, CS RJ31 e.1 e.2.1 e.2.2.1 e.2.2.2.1 (mth e.2.2.2.2) := fun _ h => absurd h List.not_mem_nil
def klk_131 : List (Nat × Nat) := []
theorem klk_131_ok : ∀ e ∈ klk_131, CG RJ31 e.1 e.2 := fun _ h => absurd h List.not_mem_nil
def ilk_131 : List (Nat × Nat) := []
theorem ilk_131_ok : ∀ e ∈ ilk_131, CG RJ31 e.1 e.2 := fun _ h => absurd h List.not_mem_nil
def slk_131 : List (Nat × Nat) := []
theorem slk_131_ok : ∀ e ∈ slk_131, GS RJ31 e.1 e.2 := fun _ h => absurd h List.not_mem_nil
def alk_131 : List (Nat × Nat) := []
theorem alk_131_ok : ∀ e ∈ alk_131, AG RJ31 e.1 e.2 := fun _ h => absurd h List.not_mem_nil
def dlk_131 : List (Nat × Int) := []
theorem dlk_131_ok : ∀ e ∈ dlk_131, Cond.constant RJ31 e.1 (iI e.2) ∈ lw_all := fun _ h => absurd h List.not_mem_nil
def d2k_131 : List (Nat × Int) := []
theorem d2k_131_ok : ∀ e ∈ d2k_131, Cond.constantLong RJ31 e.1 (lI e.2) ∈ lw_all := fun _ h => absurd h List.not_mem_nil
def fck_131 : List (Nat × UInt32) := []
theorem fck_131_ok : ∀ e ∈ fck_131, Cond.constantFloat RJ31 e.1 e.2 ∈ lw_all := fun _ h => absurd h List.not_mem_nil
def flk_132 : List (Nat × Nat × Nat) := []
theorem flk_132_ok : ∀ e ∈ flk_132, FG RJ32 e.1 e.2.1 e.2.2 := fun _ h => absurd h List.not_mem_nil
def plk_132 : List (Nat × Nat × Nat × FieldType × Bool) := []
theorem plk_132_ok : ∀ e ∈ plk_132, PG RJ32 e.1 e.2.1 e.2.2.1 e.2.2.2.1 e.2.2.2.2 := fun _ h => absurd h List.not_mem_nil
def nlk_132 : List (Nat × Nat) := []
theorem nlk_132_ok : ∀ e ∈ nlk_132, NG RJ32 e.1 e.2 := fun _ h => absurd h List.not_mem_nil
def cls_132 : List (Nat × Nat × Nat) := []
theorem cls_132_ok : ∀ e ∈ cls_132, CS RJ32 (.invokestatic e.1) 3 0 e.2.1 (mth e.2.2) := fun _ h => absurd h List.not_mem_nil
def cli_132 : List (Nat × Nat × Nat) := [(1, 5, 332)]
theorem cli_132_0 : (fun e : Nat × Nat × Nat => ∀ tag, tag ≠ 0 → CS RJ32 (.invokespecial e.1) 3 tag e.2.1 (mth e.2.2)) ((1, 5, 332)) := fun tag ht => CS.I mk_J31_init q1041 q1042 rfl rfl ht (by decide +kernel) (by decide +kernel)
theorem cli_132_ok : ∀ e ∈ cli_132, ∀ tag, tag ≠ 0 → CS RJ32 (.invokespecial e.1) 3 tag e.2.1 (mth e.2.2) := List.forall_mem_cons.mpr ⟨cli_132_0, fun _ h => absurd h List.not_mem_nil⟩
def clv_132 : List (Instr × Nat × Nat × Nat × Nat) := []
theorem clv_132_ok : ∀ e ∈ clv_132, CS RJ32 e.1 e.2.1 e.2.2.1 e.2.2.2.1 (mth e.2.2.2.2) := fun _ h => absurd h List.not_mem_nil
def klk_132 : List (Nat × Nat) := []
theorem klk_132_ok : ∀ e ∈ klk_132, CG RJ32 e.1 e.2 := fun _ h => absurd h List.not_mem_nil
def ilk_132 : List (Nat × Nat) := []
theorem ilk_132_ok : ∀ e ∈ ilk_132, CG RJ32 e.1 e.2 := fun _ h => absurd h List.not_mem_nil
def slk_132 : List (Nat × Nat) := []
theorem slk_132_ok : ∀ e ∈ slk_132, GS RJ32 e.1 e.2 := fun _ h => absurd h List.not_mem_nil
def alk_132 : List (Nat × Nat) := []
theorem alk_132_ok : ∀ e ∈ alk_132, AG RJ32 e.1 e.2 := fun _ h => absurd h List.not_mem_nil
def dlk_132 : List (Nat × Int) := []
theorem dlk_132_ok : ∀ e ∈ dlk_132, Cond.constant RJ32 e.1 (iI e.2) ∈ lw_all := fun _ h => absurd h List.not_mem_nil
def d2k_132 : List (Nat × Int) := []
theorem d2k_132_ok : ∀ e ∈ d2k_132, Cond.constantLong RJ32 e.1 (lI e.2) ∈ lw_all := fun _ h => absurd h List.not_mem_nil
def fck_132 : List (Nat × UInt32) := []
theorem fck_132_ok : ∀ e ∈ fck_132, Cond.constantFloat RJ32 e.1 e.2 ∈ lw_all := fun _ h => absurd h List.not_mem_nil
def flk_133 : List (Nat × Nat × Nat) := []
theorem flk_133_ok : ∀ e ∈ flk_133, FG RJ33 e.1 e.2.1 e.2.2 := fun _ h => absurd h List.not_mem_nil
def plk_133 : List (Nat × Nat × Nat × FieldType × Bool) := []
theorem plk_133_ok : ∀ e ∈ plk_133, PG RJ33 e.1 e.2.1 e.2.2.1 e.2.2.2.1 e.2.2.2.2 := fun _ h => absurd h List.not_mem_nil
def nlk_133 : List (Nat × Nat) := []
theorem nlk_133_ok : ∀ e ∈ nlk_133, NG RJ33 e.1 e.2 := fun _ h => absurd h List.not_mem_nil
def cls_133 : List (Nat × Nat × Nat) := []
theorem cls_133_ok : ∀ e ∈ cls_133, CS RJ33 (.invokestatic e.1) 3 0 e.2.1 (mth e.2.2) := fun _ h => absurd h List.not_mem_nil
def cli_133 : List (Nat × Nat × Nat) := []
theorem cli_133_ok : ∀ e ∈ cli_133, ∀ tag, tag ≠ 0 → CS RJ33 (.invokespecial e.1) 3 tag e.2.1 (mth e.2.2) := fun _ h => absurd h List.not_mem_nil
def clv_133 : List (Instr × Nat × Nat × Nat × Nat) := []
theorem clv_133_ok : ∀ e ∈ clv_133, CS RJ33 e.1 e.2.1 e.2.2.1 e.2.2.2.1 (mth e.2.2.2.2) := fun _ h => absurd h List.not_mem_nil
def klk_133 : List (Nat × Nat) := []
theorem klk_133_ok : ∀ e ∈ klk_133, CG RJ33 e.1 e.2 := fun _ h => absurd h List.not_mem_nil
def ilk_133 : List (Nat × Nat) := []
theorem ilk_133_ok : ∀ e ∈ ilk_133, CG RJ33 e.1 e.2 := fun _ h => absurd h List.not_mem_nil
def slk_133 : List (Nat × Nat) := []
theorem slk_133_ok : ∀ e ∈ slk_133, GS RJ33 e.1 e.2 := fun _ h => absurd h List.not_mem_nil
def alk_133 : List (Nat × Nat) := []
theorem alk_133_ok : ∀ e ∈ alk_133, AG RJ33 e.1 e.2 := fun _ h => absurd h List.not_mem_nil
def dlk_133 : List (Nat × Int) := []
theorem dlk_133_ok : ∀ e ∈ dlk_133, Cond.constant RJ33 e.1 (iI e.2) ∈ lw_all := fun _ h => absurd h List.not_mem_nil
def d2k_133 : List (Nat × Int) := []
theorem d2k_133_ok : ∀ e ∈ d2k_133, Cond.constantLong RJ33 e.1 (lI e.2) ∈ lw_all := fun _ h => absurd h List.not_mem_nil
def fck_133 : List (Nat × UInt32) := []
theorem fck_133_ok : ∀ e ∈ fck_133, Cond.constantFloat RJ33 e.1 e.2 ∈ lw_all := fun _ h => absurd h List.not_mem_nil
def flk_136 : List (Nat × Nat × Nat) := []
theorem flk_136_ok : ∀ e ∈ flk_136, FG RJ36 e.1 e.2.1 e.2.2 := fun _ h => absurd h List.not_mem_nil
def plk_136 : List (Nat × Nat × Nat × FieldType × Bool) := []
theorem plk_136_ok : ∀ e ∈ plk_136, PG RJ36 e.1 e.2.1 e.2.2.1 e.2.2.2.1 e.2.2.2.2 := fun _ h => absurd h List.not_mem_nil
def nlk_136 : List (Nat × Nat) := []
theorem nlk_136_ok : ∀ e ∈ nlk_136, NG RJ36 e.1 e.2 := fun _ h => absurd h List.not_mem_nil
def cls_136 : List (Nat × Nat × Nat) := []
theorem cls_136_ok : ∀ e ∈ cls_136, CS RJ36 (.invokestatic e.1) 3 0 e.2.1 (mth e.2.2) := fun _ h => absurd h List.not_mem_nil
def cli_136 : List (Nat × Nat × Nat) := []
theorem cli_136_ok : ∀ e ∈ cli_136, ∀ tag, tag ≠ 0 → CS RJ36 (.invokespecial e.1) 3 tag e.2.1 (mth e.2.2) := fun _ h => absurd h List.not_mem_nil
def clv_136 : List (Instr × Nat × Nat × Nat × Nat) := []
theorem clv_136_ok : ∀ e ∈ clv_136, CS RJ36 e.1 e.2.1 e.2.2.1 e.2.2.2.1 (mth e.2.2.2.2) := fun _ h => absurd h List.not_mem_nil
def klk_136 : List (Nat × Nat) := []
theorem klk_136_ok : ∀ e ∈ klk_136, CG RJ36 e.1 e.2 := fun _ h => absurd h List.not_mem_nil
def ilk_136 : List (Nat × Nat) := []
theorem ilk_136_ok : ∀ e ∈ ilk_136, CG RJ36 e.1 e.2 := fun _ h => absurd h List.not_mem_nil
def slk_136 : List (Nat × Nat) := []
theorem slk_136_ok : ∀ e ∈ slk_136, GS RJ36 e.1 e.2 := fun _ h => absurd h List.not_mem_nil
def alk_136 : List (Nat × Nat) := []
theorem alk_136_ok : ∀ e ∈ alk_136, AG RJ36 e.1 e.2 := fun _ h => absurd h List.not_mem_nil
def dlk_136 : List (Nat × Int) := []
theorem dlk_136_ok : ∀ e ∈ dlk_136, Cond.constant RJ36 e.1 (iI e.2) ∈ lw_all := fun _ h => absurd h List.not_mem_nil
def d2k_136 : List (Nat × Int) := []
theorem d2k_136_ok : ∀ e ∈ d2k_136, Cond.constantLong RJ36 e.1 (lI e.2) ∈ lw_all := fun _ h => absurd h List.not_mem_nil
def fck_136 : List (Nat × UInt32) := []
theorem fck_136_ok : ∀ e ∈ fck_136, Cond.constantFloat RJ36 e.1 e.2 ∈ lw_all := fun _ h => absurd h List.not_mem_nil
def flk_138 : List (Nat × Nat × Nat) := []
theorem flk_138_ok : ∀ e ∈ flk_138, FG RJ38 e.1 e.2.1 e.2.2 := fun _ h => absurd h List.not_mem_nil
def plk_138 : List (Nat × Nat × Nat × FieldType × Bool) := []
theorem plk_138_ok : ∀ e ∈ plk_138, PG RJ38 e.1 e.2.1 e.2.2.1 e.2.2.2.1 e.2.2.2.2 := fun _ h => absurd h List.not_mem_nil
def nlk_138 : List (Nat × Nat) := []
theorem nlk_138_ok : ∀ e ∈ nlk_138, NG RJ38 e.1 e.2 := fun _ h => absurd h List.not_mem_nil
def cls_138 : List (Nat × Nat × Nat) := [(300, 3, 338), (304, 2, 334)]
theorem cls_138_0 : (fun e : Nat × Nat × Nat => CS RJ38 (.invokestatic e.1) 3 0 e.2.1 (mth e.2.2)) ((300, 3, 338)) := CS.S mk_J38_copyOf_2 q1537 q1538 (by decide +kernel) (by decide +kernel)
theorem cls_138_1 : (fun e : Nat × Nat × Nat => CS RJ38 (.invokestatic e.1) 3 0 e.2.1 (mth e.2.2)) ((304, 2, 334)) := CS.S mk_J33_min q1542 q1194 (by decide +kernel) (by decide +kernel)
theorem cls_138_ok : ∀ e ∈ cls_138, CS RJ38 (.invokestatic e.1) 3 0 e.2.1 (mth e.2.2) := List.forall_mem_cons.mpr ⟨cls_138_0, List.forall_mem_cons.mpr ⟨cls_138_1, fun _ h => absurd h List.not_mem_nil⟩⟩
def cli_138 : List (Nat × Nat × Nat) := []
theorem cli_138_ok : ∀ e ∈ cli_138, ∀ tag, tag ≠ 0 → CS RJ38 (.invokespecial e.1) 3 tag e.2.1 (mth e.2.2) := fun _ h => absurd h List.not_mem_nil
def clv_138 : List (Instr × Nat × Nat × Nat × Nat) := []
theorem clv_138_ok : ∀ e ∈ clv_138, CS RJ38 e.1 e.2.1 e.2.2.1 e.2.2.2.1 (mth e.2.2.2.2) := fun _ h => absurd h List.not_mem_nil
def klk_138 : List (Nat × Nat) := []
theorem klk_138_ok : ∀ e ∈ klk_138, CG RJ38 e.1 e.2 := fun _ h => absurd h List.not_mem_nil
def ilk_138 : List (Nat × Nat) := []
theorem ilk_138_ok : ∀ e ∈ ilk_138, CG RJ38 e.1 e.2 := fun _ h => absurd h List.not_mem_nil
def slk_138 : List (Nat × Nat) := []
theorem slk_138_ok : ∀ e ∈ slk_138, GS RJ38 e.1 e.2 := fun _ h => absurd h List.not_mem_nil
def alk_138 : List (Nat × Nat) := [(2, 3)]
theorem alk_138_0 : (fun e : Nat × Nat => AG RJ38 e.1 e.2) ((2, 3)) := ⟨"java/lang/Object", by decide, rfl, q1541, q315⟩
theorem alk_138_ok : ∀ e ∈ alk_138, AG RJ38 e.1 e.2 := List.forall_mem_cons.mpr ⟨alk_138_0, fun _ h => absurd h List.not_mem_nil⟩
def dlk_138 : List (Nat × Int) := []
theorem dlk_138_ok : ∀ e ∈ dlk_138, Cond.constant RJ38 e.1 (iI e.2) ∈ lw_all := fun _ h => absurd h List.not_mem_nil
def d2k_138 : List (Nat × Int) := []
theorem d2k_138_ok : ∀ e ∈ d2k_138, Cond.constantLong RJ38 e.1 (lI e.2) ∈ lw_all := fun _ h => absurd h List.not_mem_nil
def fck_138 : List (Nat × UInt32) := []
theorem fck_138_ok : ∀ e ∈ fck_138, Cond.constantFloat RJ38 e.1 e.2 ∈ lw_all := fun _ h => absurd h List.not_mem_nil
def flk_139 : List (Nat × Nat × Nat) := []
theorem flk_139_ok : ∀ e ∈ flk_139, FG RJ39 e.1 e.2.1 e.2.2 := fun _ h => absurd h List.not_mem_nil
def plk_139 : List (Nat × Nat × Nat × FieldType × Bool) := []
theorem plk_139_ok : ∀ e ∈ plk_139, PG RJ39 e.1 e.2.1 e.2.2.1 e.2.2.2.1 e.2.2.2.2 := fun _ h => absurd h List.not_mem_nil
def nlk_139 : List (Nat × Nat) := []
theorem nlk_139_ok : ∀ e ∈ nlk_139, NG RJ39 e.1 e.2 := fun _ h => absurd h List.not_mem_nil
def cls_139 : List (Nat × Nat × Nat) := [(105, 3, 336)]
theorem cls_139_0 : (fun e : Nat × Nat × Nat => CS RJ39 (.invokestatic e.1) 3 0 e.2.1 (mth e.2.2)) ((105, 3, 336)) := CS.S mk_J36_checkIndex q1758 q1759 (by decide +kernel) (by decide +kernel)
theorem cls_139_ok : ∀ e ∈ cls_139, CS RJ39 (.invokestatic e.1) 3 0 e.2.1 (mth e.2.2) := List.forall_mem_cons.mpr ⟨cls_139_0, fun _ h => absurd h List.not_mem_nil⟩
def cli_139 : List (Nat × Nat × Nat) := []
theorem cli_139_ok : ∀ e ∈ cli_139, ∀ tag, tag ≠ 0 → CS RJ39 (.invokespecial e.1) 3 tag e.2.1 (mth e.2.2) := fun _ h => absurd h List.not_mem_nil
def clv_139 : List (Instr × Nat × Nat × Nat × Nat) := []
theorem clv_139_ok : ∀ e ∈ clv_139, CS RJ39 e.1 e.2.1 e.2.2.1 e.2.2.2.1 (mth e.2.2.2.2) := fun _ h => absurd h List.not_mem_nil
def klk_139 : List (Nat × Nat) := []
theorem klk_139_ok : ∀ e ∈ klk_139, CG RJ39 e.1 e.2 := fun _ h => absurd h List.not_mem_nil
def ilk_139 : List (Nat × Nat) := []
theorem ilk_139_ok : ∀ e ∈ ilk_139, CG RJ39 e.1 e.2 := fun _ h => absurd h List.not_mem_nil
def slk_139 : List (Nat × Nat) := []
theorem slk_139_ok : ∀ e ∈ slk_139, GS RJ39 e.1 e.2 := fun _ h => absurd h List.not_mem_nil
def alk_139 : List (Nat × Nat) := []
theorem alk_139_ok : ∀ e ∈ alk_139, AG RJ39 e.1 e.2 := fun _ h => absurd h List.not_mem_nil
def dlk_139 : List (Nat × Int) := []
theorem dlk_139_ok : ∀ e ∈ dlk_139, Cond.constant RJ39 e.1 (iI e.2) ∈ lw_all := fun _ h => absurd h List.not_mem_nil
def d2k_139 : List (Nat × Int) := []
theorem d2k_139_ok : ∀ e ∈ d2k_139, Cond.constantLong RJ39 e.1 (lI e.2) ∈ lw_all := fun _ h => absurd h List.not_mem_nil
def fck_139 : List (Nat × UInt32) := []
theorem fck_139_ok : ∀ e ∈ fck_139, Cond.constantFloat RJ39 e.1 e.2 ∈ lw_all := fun _ h => absurd h List.not_mem_nil
def flk_140 : List (Nat × Nat × Nat) := []
theorem flk_140_ok : ∀ e ∈ flk_140, FG RJ40 e.1 e.2.1 e.2.2 := fun _ h => absurd h List.not_mem_nil
def plk_140 : List (Nat × Nat × Nat × FieldType × Bool) := [(9, 25, 5, tyJ40 5, false), (15, 25, 0, tyJ40 0, false), (19, 25, 1, tyJ40 1, false), (22, 25, 4, tyJ40 4, false)]
theorem plk_140_0 : (fun e : Nat × Nat × Nat × FieldType × Bool => PG RJ40 e.1 e.2.1 e.2.2.1 e.2.2.2.1 e.2.2.2.2) ((9, 25, 5, tyJ40 5, false)) := PG.mk' (i := 24) (k := 5) (by decide) (by decide) rfl (by decide) (Or.inl q2004) (Or.inl rfl) rfl rfl (fun h => by cases h)
theorem plk_140_1 : (fun e : Nat × Nat × Nat × FieldType × Bool => PG RJ40 e.1 e.2.1 e.2.2.1 e.2.2.2.1 e.2.2.2.2) ((15, 25, 0, tyJ40 0, false)) := PG.mk' (i := 24) (k := 0) (by decide) (by decide) rfl (by decide) (Or.inl q1995) (Or.inl rfl) rfl rfl (fun h => by cases h)
theorem plk_140_2 : (fun e : Nat × Nat × Nat × FieldType × Bool => PG RJ40 e.1 e.2.1 e.2.2.1 e.2.2.2.1 e.2.2.2.2) ((19, 25, 1, tyJ40 1, false)) := PG.mk' (i := 24) (k := 1) (by decide) (by decide) rfl (by decide) (Or.inl q1997) (Or.inl rfl) rfl rfl (fun h => by cases h)
theorem plk_140_3 : (fun e : Nat × Nat × Nat × FieldType × Bool => PG RJ40 e.1 e.2.1 e.2.2.1 e.2.2.2.1 e.2.2.2.2) ((22, 25, 4, tyJ40 4, false)) := PG.mk' (i := 24) (k := 4) (by decide) (by decide) rfl (by decide) (Or.inl q2002) (Or.inl rfl) rfl rfl (fun h => by cases h)
theorem plk_140_ok : ∀ e ∈ plk_140, PG RJ40 e.1 e.2.1 e.2.2.1 e.2.2.2.1 e.2.2.2.2 := List.forall_mem_cons.mpr ⟨plk_140_0, List.forall_mem_cons.mpr ⟨plk_140_1, List.forall_mem_cons.mpr ⟨plk_140_2, List.forall_mem_cons.mpr ⟨plk_140_3, fun _ h => absurd h List.not_mem_nil⟩⟩⟩⟩
def nlk_140 : List (Nat × Nat) := []
theorem nlk_140_ok : ∀ e ∈ nlk_140, NG RJ40 e.1 e.2 := fun _ h => absurd h List.not_mem_nil
def cls_140 : List (Nat × Nat × Nat) := []
theorem cls_140_ok : ∀ e ∈ cls_140, CS RJ40 (.invokestatic e.1) 3 0 e.2.1 (mth e.2.2) := fun _ h => absurd h List.not_mem_nil
def cli_140 : List (Nat × Nat × Nat) := [(3, 1, 354)]
theorem cli_140_0 : (fun e : Nat × Nat × Nat => ∀ tag, tag ≠ 0 → CS RJ40 (.invokespecial e.1) 3 tag e.2.1 (mth e.2.2)) ((3, 1, 354)) := fun tag ht => CS.I mk_J45_init q1994 q163 rfl rfl ht (by decide +kernel) (by decide +kernel)
theorem cli_140_ok : ∀ e ∈ cli_140, ∀ tag, tag ≠ 0 → CS RJ40 (.invokespecial e.1) 3 tag e.2.1 (mth e.2.2) := List.forall_mem_cons.mpr ⟨cli_140_0, fun _ h => absurd h List.not_mem_nil⟩
def clv_140 : List (Instr × Nat × Nat × Nat × Nat) := []
theorem clv_140_ok : ∀ e ∈ clv_140, CS RJ40 e.1 e.2.1 e.2.2.1 e.2.2.2.1 (mth e.2.2.2.2) := fun _ h => absurd h List.not_mem_nil
def klk_140 : List (Nat × Nat) := []
theorem klk_140_ok : ∀ e ∈ klk_140, CG RJ40 e.1 e.2 := fun _ h => absurd h List.not_mem_nil
def ilk_140 : List (Nat × Nat) := []
theorem ilk_140_ok : ∀ e ∈ ilk_140, CG RJ40 e.1 e.2 := fun _ h => absurd h List.not_mem_nil
def slk_140 : List (Nat × Nat) := []
theorem slk_140_ok : ∀ e ∈ slk_140, GS RJ40 e.1 e.2 := fun _ h => absurd h List.not_mem_nil
def alk_140 : List (Nat × Nat) := []
theorem alk_140_ok : ∀ e ∈ alk_140, AG RJ40 e.1 e.2 := fun _ h => absurd h List.not_mem_nil
def dlk_140 : List (Nat × Int) := []
theorem dlk_140_ok : ∀ e ∈ dlk_140, Cond.constant RJ40 e.1 (iI e.2) ∈ lw_all := fun _ h => absurd h List.not_mem_nil
def d2k_140 : List (Nat × Int) := []
theorem d2k_140_ok : ∀ e ∈ d2k_140, Cond.constantLong RJ40 e.1 (lI e.2) ∈ lw_all := fun _ h => absurd h List.not_mem_nil
def fck_140 : List (Nat × UInt32) := []
theorem fck_140_ok : ∀ e ∈ fck_140, Cond.constantFloat RJ40 e.1 e.2 ∈ lw_all := fun _ h => absurd h List.not_mem_nil
def flk_141 : List (Nat × Nat × Nat) := [(1, 26, 0)]
theorem flk_141_0 : (fun e : Nat × Nat × Nat => FG RJ41 e.1 e.2.1 e.2.2) ((1, 26, 0)) := FG.mk' (i := 25) (k := 0) (by decide) (by decide) rfl (by decide) (Or.inl q2064) (Or.inl rfl) (Or.inl rfl)
theorem flk_141_ok : ∀ e ∈ flk_141, FG RJ41 e.1 e.2.1 e.2.2 := List.forall_mem_cons.mpr ⟨flk_141_0, fun _ h => absurd h List.not_mem_nil⟩
def plk_141 : List (Nat × Nat × Nat × FieldType × Bool) := [(1, 26, 0, tyJ41 0, true)]
theorem plk_141_0 : (fun e : Nat × Nat × Nat × FieldType × Bool => PG RJ41 e.1 e.2.1 e.2.2.1 e.2.2.2.1 e.2.2.2.2) ((1, 26, 0, tyJ41 0, true)) := PG.mk' (i := 25) (k := 0) (by decide) (by decide) rfl (by decide) (Or.inl q2064) (Or.inl rfl) rfl rfl (fun _ => rfl)
theorem plk_141_ok : ∀ e ∈ plk_141, PG RJ41 e.1 e.2.1 e.2.2.1 e.2.2.2.1 e.2.2.2.2 := List.forall_mem_cons.mpr ⟨plk_141_0, fun _ h => absurd h List.not_mem_nil⟩
def nlk_141 : List (Nat × Nat) := [(13, 22)]
theorem nlk_141_0 : (fun e : Nat × Nat => NG RJ41 e.1 e.2) ((13, 22)) := ⟨by decide, by decide, _, rfl, q867, q868, q132⟩
theorem nlk_141_ok : ∀ e ∈ nlk_141, NG RJ41 e.1 e.2 := List.forall_mem_cons.mpr ⟨nlk_141_0, fun _ h => absurd h List.not_mem_nil⟩
def cls_141 : List (Nat × Nat × Nat) := []
theorem cls_141_ok : ∀ e ∈ cls_141, CS RJ41 (.invokestatic e.1) 3 0 e.2.1 (mth e.2.2) := fun _ h => absurd h List.not_mem_nil
def cli_141 : List (Nat × Nat × Nat) := [(21, 3, 324), (7, 1, 207)]
theorem cli_141_0 : (fun e : Nat × Nat × Nat => ∀ tag, tag ≠ 0 → CS RJ41 (.invokespecial e.1) 3 tag e.2.1 (mth e.2.2)) ((21, 3, 324)) := fun tag ht => CS.I mk_J28_init q873 q874 rfl rfl ht (by decide +kernel) (by decide +kernel)
theorem cli_141_1 : (fun e : Nat × Nat × Nat => ∀ tag, tag ≠ 0 → CS RJ41 (.invokespecial e.1) 3 tag e.2.1 (mth e.2.2)) ((7, 1, 207)) := fun tag ht => CS.I mk_J0_init q2063 q186 rfl rfl ht (by decide +kernel) (by decide +kernel)
theorem cli_141_ok : ∀ e ∈ cli_141, ∀ tag, tag ≠ 0 → CS RJ41 (.invokespecial e.1) 3 tag e.2.1 (mth e.2.2) := List.forall_mem_cons.mpr ⟨cli_141_0, List.forall_mem_cons.mpr ⟨cli_141_1, fun _ h => absurd h List.not_mem_nil⟩⟩
def clv_141 : List (Instr × Nat × Nat × Nat × Nat) := [((.invokevirtual 15), 3, 18, 1, 281)]
theorem clv_141_0 : (fun e : Instr × Nat × Nat × Nat × Nat => CS RJ41 e.1 e.2.1 e.2.2.1 e.2.2.2.1 (mth e.2.2.2.2)) (((.invokevirtual 15), 3, 18, 1, 281)) := CS.V (i := 17) mk_J12_getFirstEntry ⟨by decide, Or.inl rfl, rfl⟩ rfl q869 q870 q871 (by decide +kernel) (by decide +kernel)
theorem clv_141_ok : ∀ e ∈ clv_141, CS RJ41 e.1 e.2.1 e.2.2.1 e.2.2.2.1 (mth e.2.2.2.2) := List.forall_mem_cons.mpr ⟨clv_141_0, fun _ h => absurd h List.not_mem_nil⟩
def klk_141 : List (Nat × Nat) := []
theorem klk_141_ok : ∀ e ∈ klk_141, CG RJ41 e.1 e.2 := fun _ h => absurd h List.not_mem_nil
def ilk_141 : List (Nat × Nat) := []
theorem ilk_141_ok : ∀ e ∈ ilk_141, CG RJ41 e.1 e.2 := fun _ h => absurd h List.not_mem_nil
def slk_141 : List (Nat × Nat) := []
theorem slk_141_ok : ∀ e ∈ slk_141, GS RJ41 e.1 e.2 := fun _ h => absurd h List.not_mem_nil
def alk_141 : List (Nat × Nat) := []
theorem alk_141_ok : ∀ e ∈ alk_141, AG RJ41 e.1 e.2 := fun _ h => absurd h List.not_mem_nil
def dlk_141 : List (Nat × Int) := []
theorem dlk_141_ok : ∀ e ∈ dlk_141, Cond.constant RJ41 e.1 (iI e.2) ∈ lw_all := fun _ h => absurd h List.not_mem_nil
def d2k_141 : List (Nat × Int) := []
theorem d2k_141_ok : ∀ e ∈ d2k_141, Cond.constantLong RJ41 e.1 (lI e.2) ∈ lw_all := fun _ h => absurd h List.not_mem_nil
def fck_141 : List (Nat × UInt32) := []
theorem fck_141_ok : ∀ e ∈ fck_141, Cond.constantFloat RJ41 e.1 e.2 ∈ lw_all := fun _ h => absurd h List.not_mem_nil
def flk_142 : List (Nat × Nat × Nat) := []
theorem flk_142_ok : ∀ e ∈ flk_142, FG RJ42 e.1 e.2.1 e.2.2 := fun _ h => absurd h List.not_mem_nil
def plk_142 : List (Nat × Nat × Nat × FieldType × Bool) := []
theorem plk_142_ok : ∀ e ∈ plk_142, PG RJ42 e.1 e.2.1 e.2.2.1 e.2.2.2.1 e.2.2.2.2 := fun _ h => absurd h List.not_mem_nil
def nlk_142 : List (Nat × Nat) := []
theorem nlk_142_ok : ∀ e ∈ nlk_142, NG RJ42 e.1 e.2 := fun _ h => absurd h List.not_mem_nil
def cls_142 : List (Nat × Nat × Nat) := []
theorem cls_142_ok : ∀ e ∈ cls_142, CS RJ42 (.invokestatic e.1) 3 0 e.2.1 (mth e.2.2) := fun _ h => absurd h List.not_mem_nil
def cli_142 : List (Nat × Nat × Nat) := [(1, 1, 207)]
theorem cli_142_0 : (fun e : Nat × Nat × Nat => ∀ tag, tag ≠ 0 → CS RJ42 (.invokespecial e.1) 3 tag e.2.1 (mth e.2.2)) ((1, 1, 207)) := fun tag ht => CS.I mk_J0_init q2277 q186 rfl rfl ht (by decide +kernel) (by decide +kernel)
theorem cli_142_ok : ∀ e ∈ cli_142, ∀ tag, tag ≠ 0 → CS RJ42 (.invokespecial e.1) 3 tag e.2.1 (mth e.2.2) := List.forall_mem_cons.mpr ⟨cli_142_0, fun _ h => absurd h List.not_mem_nil⟩
def clv_142 : List (Instr × Nat × Nat × Nat × Nat) := []
theorem clv_142_ok : ∀ e ∈ clv_142, CS RJ42 e.1 e.2.1 e.2.2.1 e.2.2.2.1 (mth e.2.2.2.2) := fun _ h => absurd h List.not_mem_nil
def klk_142 : List (Nat × Nat) := []
theorem klk_142_ok : ∀ e ∈ klk_142, CG RJ42 e.1 e.2 := fun _ h => absurd h List.not_mem_nil
def ilk_142 : List (Nat × Nat) := []
theorem ilk_142_ok : ∀ e ∈ ilk_142, CG RJ42 e.1 e.2 := fun _ h => absurd h List.not_mem_nil
def slk_142 : List (Nat × Nat) := []
theorem slk_142_ok : ∀ e ∈ slk_142, GS RJ42 e.1 e.2 := fun _ h => absurd h List.not_mem_nil
def alk_142 : List (Nat × Nat) := []
theorem alk_142_ok : ∀ e ∈ alk_142, AG RJ42 e.1 e.2 := fun _ h => absurd h List.not_mem_nil
def dlk_142 : List (Nat × Int) := []
theorem dlk_142_ok : ∀ e ∈ dlk_142, Cond.constant RJ42 e.1 (iI e.2) ∈ lw_all := fun _ h => absurd h List.not_mem_nil
def d2k_142 : List (Nat × Int) := []
theorem d2k_142_ok : ∀ e ∈ d2k_142, Cond.constantLong RJ42 e.1 (lI e.2) ∈ lw_all := fun _ h => absurd h List.not_mem_nil
def fck_142 : List (Nat × UInt32) := []
theorem fck_142_ok : ∀ e ∈ fck_142, Cond.constantFloat RJ42 e.1 e.2 ∈ lw_all := fun _ h => absurd h List.not_mem_nil
def flk_143 : List (Nat × Nat × Nat) := [(93, 27, 3), (58, 27, 1), (17, 27, 0), (21, 27, 2)]
theorem flk_143_0 : (fun e : Nat × Nat × Nat => FG RJ43 e.1 e.2.1 e.2.2) ((93, 27, 3)) := FG.mk' (i := 26) (k := 3) (by decide) (by decide) rfl (by decide) (Or.inl q2285) (Or.inl rfl) (Or.inl rfl)
theorem flk_143_1 : (fun e : Nat × Nat × Nat => FG RJ43 e.1 e.2.1 e.2.2) ((58, 27, 1)) := FG.mk' (i := 26) (k := 1) (by decide) (by decide) rfl (by decide) (Or.inl q2282) (Or.inl rfl) (Or.inl rfl)
theorem flk_143_2 : (fun e : Nat × Nat × Nat => FG RJ43 e.1 e.2.1 e.2.2) ((17, 27, 0)) := FG.mk' (i := 26) (k := 0) (by decide) (by decide) rfl (by decide) (Or.inl q2280) (Or.inl rfl) (Or.inl rfl)
theorem flk_143_3 : (fun e : Nat × Nat × Nat => FG RJ43 e.1 e.2.1 e.2.2) ((21, 27, 2)) := FG.mk' (i := 26) (k := 2) (by decide) (by decide) rfl (by decide) (Or.inl q2283) (Or.inl rfl) (Or.inl rfl)
theorem flk_143_ok : ∀ e ∈ flk_143, FG RJ43 e.1 e.2.1 e.2.2 := List.forall_mem_cons.mpr ⟨flk_143_0, List.forall_mem_cons.mpr ⟨flk_143_1, List.forall_mem_cons.mpr ⟨flk_143_2, List.forall_mem_cons.mpr ⟨flk_143_3, fun _ h => absurd h List.not_mem_nil⟩⟩⟩⟩
def plk_143 : List (Nat × Nat × Nat × FieldType × Bool) := [(17, 27, 0, tyJ43 0, false), (21, 27, 2, tyJ43 2, true), (93, 27, 3, tyJ43 3, false), (58, 27, 1, tyJ43 1, false)]
theorem plk_143_0 : (fun e : Nat × Nat × Nat × FieldType × Bool => PG RJ43 e.1 e.2.1 e.2.2.1 e.2.2.2.1 e.2.2.2.2) ((17, 27, 0, tyJ43 0, false)) := PG.mk' (i := 26) (k := 0) (by decide) (by decide) rfl (by decide) (Or.inl q2280) (Or.inl rfl) rfl rfl (fun h => by cases h)
theorem plk_143_1 : (fun e : Nat × Nat × Nat × FieldType × Bool => PG RJ43 e.1 e.2.1 e.2.2.1 e.2.2.2.1 e.2.2.2.2) ((21, 27, 2, tyJ43 2, true)) := PG.mk' (i := 26) (k := 2) (by decide) (by decide) rfl (by decide) (Or.inl q2283) (Or.inl rfl) rfl rfl (fun _ => rfl)
theorem plk_143_2 : (fun e : Nat × Nat × Nat × FieldType × Bool => PG RJ43 e.1 e.2.1 e.2.2.1 e.2.2.2.1 e.2.2.2.2) ((93, 27, 3, tyJ43 3, false)) := PG.mk' (i := 26) (k := 3) (by decide) (by decide) rfl (by decide) (Or.inl q2285) (Or.inl rfl) rfl rfl (fun h => by cases h)
theorem plk_143_3 : (fun e : Nat × Nat × Nat × FieldType × Bool => PG RJ43 e.1 e.2.1 e.2.2.1 e.2.2.2.1 e.2.2.2.2) ((58, 27, 1, tyJ43 1, false)) := PG.mk' (i := 26) (k := 1) (by decide) (by decide) rfl (by decide) (Or.inl q2282) (Or.inl rfl) rfl rfl (fun h => by cases h)
theorem plk_143_ok : ∀ e ∈ plk_143, PG RJ43 e.1 e.2.1 e.2.2.1 e.2.2.2.1 e.2.2.2.2 := List.forall_mem_cons.mpr ⟨plk_143_0, List.forall_mem_cons.mpr ⟨plk_143_1, List.forall_mem_cons.mpr ⟨plk_143_2, List.forall_mem_cons.mpr ⟨plk_143_3, fun _ h => absurd h List.not_mem_nil⟩⟩⟩⟩
def nlk_143 : List (Nat × Nat) := []
theorem nlk_143_ok : ∀ e ∈ nlk_143, NG RJ43 e.1 e.2 := fun _ h => absurd h List.not_mem_nil
def cls_143 : List (Nat × Nat × Nat) := [(80, 3, 329), (86, 2, 337), (136, 4, 351), (129, 5, 353)]
theorem cls_143_0 : (fun e : Nat × Nat × Nat => CS RJ43 (.invokestatic e.1) 3 0 e.2.1 (mth e.2.2)) ((80, 3, 329)) := CS.S mk_J30_newLength q2315 q1524 (by decide +kernel) (by decide +kernel)
theorem cls_143_1 : (fun e : Nat × Nat × Nat => CS RJ43 (.invokestatic e.1) 3 0 e.2.1 (mth e.2.2)) ((86, 2, 337)) := CS.S mk_J38_copyOf q2316 q1534 (by decide +kernel) (by decide +kernel)
theorem cls_143_2 : (fun e : Nat × Nat × Nat => CS RJ43 (.invokestatic e.1) 3 0 e.2.1 (mth e.2.2)) ((136, 4, 351)) := CS.S mk_J43_siftUpUsingComparator q2321 q2322 (by decide +kernel) (by decide +kernel)
theorem cls_143_3 : (fun e : Nat × Nat × Nat => CS RJ43 (.invokestatic e.1) 3 0 e.2.1 (mth e.2.2)) ((129, 5, 353)) := CS.S mk_J43_siftDownUsingComparator q2343 q2344 (by decide +kernel) (by decide +kernel)
theorem cls_143_ok : ∀ e ∈ cls_143, CS RJ43 (.invokestatic e.1) 3 0 e.2.1 (mth e.2.2) := List.forall_mem_cons.mpr ⟨cls_143_0, List.forall_mem_cons.mpr ⟨cls_143_1, List.forall_mem_cons.mpr ⟨cls_143_2, List.forall_mem_cons.mpr ⟨cls_143_3, fun _ h => absurd h List.not_mem_nil⟩⟩⟩⟩
def cli_143 : List (Nat × Nat × Nat) := [(7, 1, 345)]
theorem cli_143_0 : (fun e : Nat × Nat × Nat => ∀ tag, tag ≠ 0 → CS RJ43 (.invokespecial e.1) 3 tag e.2.1 (mth e.2.2)) ((7, 1, 345)) := fun tag ht => CS.I mk_J42_init q2274 q2275 rfl rfl ht (by decide +kernel) (by decide +kernel)
theorem cli_143_ok : ∀ e ∈ cli_143, ∀ tag, tag ≠ 0 → CS RJ43 (.invokespecial e.1) 3 tag e.2.1 (mth e.2.2) := List.forall_mem_cons.mpr ⟨cli_143_0, fun _ h => absurd h List.not_mem_nil⟩
def clv_143 : List (Instr × Nat × Nat × Nat × Nat) := [((.invokevirtual 89), 3, 27, 2, 348), ((.invokevirtual 96), 3, 27, 2, 349), ((.invokevirtual 100), 3, 27, 3, 350), ((.invokeinterface 149 3), 5, 10, 3, 196)]
theorem clv_143_0 : (fun e : Instr × Nat × Nat × Nat × Nat => CS RJ43 e.1 e.2.1 e.2.2.1 e.2.2.2.1 (mth e.2.2.2.2)) (((.invokevirtual 89), 3, 27, 2, 348)) := CS.V (i := 26) mk_J43_offer ⟨by decide, Or.inl rfl, rfl⟩ rfl q2307 q2308 q2309 (by decide +kernel) (by decide +kernel)
theorem clv_143_1 : (fun e : Instr × Nat × Nat × Nat × Nat => CS RJ43 e.1 e.2.1 e.2.2.1 e.2.2.2.1 (mth e.2.2.2.2)) (((.invokevirtual 96), 3, 27, 2, 349)) := CS.V (i := 26) mk_J43_grow ⟨by decide, Or.inl rfl, rfl⟩ rfl q2311 q2313 qs35 (by decide +kernel) (by decide +kernel)
theorem clv_143_2 : (fun e : Instr × Nat × Nat × Nat × Nat => CS RJ43 e.1 e.2.1 e.2.2.1 e.2.2.2.1 (mth e.2.2.2.2)) (((.invokevirtual 100), 3, 27, 3, 350)) := CS.V (i := 26) mk_J43_siftUp ⟨by decide, Or.inl rfl, rfl⟩ rfl q2317 q2319 qs36 (by decide +kernel) (by decide +kernel)
theorem clv_143_3 : (fun e : Instr × Nat × Nat × Nat × Nat => CS RJ43 e.1 e.2.1 e.2.2.1 e.2.2.2.1 (mth e.2.2.2.2)) (((.invokeinterface 149 3), 5, 10, 3, 196)) := CS.F (i := 9) (x := ⟨"java/util/Comparator", "compare", "(Ljava/lang/Object;Ljava/lang/Object;)I"⟩) mk_X9_compare ⟨by decide, Or.inl rfl, rfl⟩ (by decide) q2325 q1970 q1968 q1966 q1965 q1971 q1969 q1967 (by decide +kernel) (by decide +kernel)
theorem clv_143_ok : ∀ e ∈ clv_143, CS RJ43 e.1 e.2.1 e.2.2.1 e.2.2.2.1 (mth e.2.2.2.2) := List.forall_mem_cons.mpr ⟨clv_143_0, List.forall_mem_cons.mpr ⟨clv_143_1, List.forall_mem_cons.mpr ⟨clv_143_2, List.forall_mem_cons.mpr ⟨clv_143_3, fun _ h => absurd h List.not_mem_nil⟩⟩⟩⟩
def klk_143 : List (Nat × Nat) := []
theorem klk_143_ok : ∀ e ∈ klk_143, CG RJ43 e.1 e.2 := fun _ h => absurd h List.not_mem_nil
def ilk_143 : List (Nat × Nat) := []
theorem ilk_143_ok : ∀ e ∈ ilk_143, CG RJ43 e.1 e.2 := fun _ h => absurd h List.not_mem_nil
def slk_143 : List (Nat × Nat) := []
theorem slk_143_ok : ∀ e ∈ slk_143, GS RJ43 e.1 e.2 := fun _ h => absurd h List.not_mem_nil
def alk_143 : List (Nat × Nat) := [(15, 3)]
theorem alk_143_0 : (fun e : Nat × Nat => AG RJ43 e.1 e.2) ((15, 3)) := ⟨"java/lang/Object", by decide, rfl, q2278, q315⟩
theorem alk_143_ok : ∀ e ∈ alk_143, AG RJ43 e.1 e.2 := List.forall_mem_cons.mpr ⟨alk_143_0, fun _ h => absurd h List.not_mem_nil⟩
def dlk_143 : List (Nat × Int) := []
theorem dlk_143_ok : ∀ e ∈ dlk_143, Cond.constant RJ43 e.1 (iI e.2) ∈ lw_all := fun _ h => absurd h List.not_mem_nil
def d2k_143 : List (Nat × Int) := []
theorem d2k_143_ok : ∀ e ∈ d2k_143, Cond.constantLong RJ43 e.1 (lI e.2) ∈ lw_all := fun _ h => absurd h List.not_mem_nil
def fck_143 : List (Nat × UInt32) := []
theorem fck_143_ok : ∀ e ∈ fck_143, Cond.constantFloat RJ43 e.1 e.2 ∈ lw_all := fun _ h => absurd h List.not_mem_nil
def flk_145 : List (Nat × Nat × Nat) := []
theorem flk_145_ok : ∀ e ∈ flk_145, FG RJ45 e.1 e.2.1 e.2.2 := fun _ h => absurd h List.not_mem_nil
def plk_145 : List (Nat × Nat × Nat × FieldType × Bool) := []
theorem plk_145_ok : ∀ e ∈ plk_145, PG RJ45 e.1 e.2.1 e.2.2.1 e.2.2.2.1 e.2.2.2.2 := fun _ h => absurd h List.not_mem_nil
def nlk_145 : List (Nat × Nat) := []
theorem nlk_145_ok : ∀ e ∈ nlk_145, NG RJ45 e.1 e.2 := fun _ h => absurd h List.not_mem_nil
def cls_145 : List (Nat × Nat × Nat) := []
theorem cls_145_ok : ∀ e ∈ cls_145, CS RJ45 (.invokestatic e.1) 3 0 e.2.1 (mth e.2.2) := fun _ h => absurd h List.not_mem_nil
def cli_145 : List (Nat × Nat × Nat) := []
theorem cli_145_ok : ∀ e ∈ cli_145, ∀ tag, tag ≠ 0 → CS RJ45 (.invokespecial e.1) 3 tag e.2.1 (mth e.2.2) := fun _ h => absurd h List.not_mem_nil
def clv_145 : List (Instr × Nat × Nat × Nat × Nat) := []
theorem clv_145_ok : ∀ e ∈ clv_145, CS RJ45 e.1 e.2.1 e.2.2.1 e.2.2.2.1 (mth e.2.2.2.2) := fun _ h => absurd h List.not_mem_nil
def klk_145 : List (Nat × Nat) := []
theorem klk_145_ok : ∀ e ∈ klk_145, CG RJ45 e.1 e.2 := fun _ h => absurd h List.not_mem_nil
def ilk_145 : List (Nat × Nat) := []
theorem ilk_145_ok : ∀ e ∈ ilk_145, CG RJ45 e.1 e.2 := fun _ h => absurd h List.not_mem_nil
def slk_145 : List (Nat × Nat) := []
theorem slk_145_ok : ∀ e ∈ slk_145, GS RJ45 e.1 e.2 := fun _ h => absurd h List.not_mem_nil
def alk_145 : List (Nat × Nat) := []
theorem alk_145_ok : ∀ e ∈ alk_145, AG RJ45 e.1 e.2 := fun _ h => absurd h List.not_mem_nil
def dlk_145 : List (Nat × Int) := []
theorem dlk_145_ok : ∀ e ∈ dlk_145, Cond.constant RJ45 e.1 (iI e.2) ∈ lw_all := fun _ h => absurd h List.not_mem_nil
def d2k_145 : List (Nat × Int) := []
theorem d2k_145_ok : ∀ e ∈ d2k_145, Cond.constantLong RJ45 e.1 (lI e.2) ∈ lw_all := fun _ h => absurd h List.not_mem_nil
def fck_145 : List (Nat × UInt32) := []
theorem fck_145_ok : ∀ e ∈ fck_145, Cond.constantFloat RJ45 e.1 e.2 ∈ lw_all := fun _ h => absurd h List.not_mem_nil
def flk_99 : List (Nat × Nat × Nat) := []
theorem flk_99_ok : ∀ e ∈ flk_99, FG "WireDigsLaw" e.1 e.2.1 e.2.2 := fun _ h => absurd h List.not_mem_nil
def plk_99 : List (Nat × Nat × Nat × FieldType × Bool) := []
theorem plk_99_ok : ∀ e ∈ plk_99, PG "WireDigsLaw" e.1 e.2.1 e.2.2.1 e.2.2.2.1 e.2.2.2.2 := fun _ h => absurd h List.not_mem_nil
def nlk_99 : List (Nat × Nat) := [(7, 0), (10, 4)]
theorem nlk_99_0 : (fun e : Nat × Nat => NG "WireDigsLaw" e.1 e.2) ((7, 0)) := ⟨by decide, by decide, _, rfl, q157, q158, q98⟩
theorem nlk_99_1 : (fun e : Nat × Nat => NG "WireDigsLaw" e.1 e.2) ((10, 4)) := ⟨by decide, by decide, _, rfl, q2770, q2771, q113⟩
theorem nlk_99_ok : ∀ e ∈ nlk_99, NG "WireDigsLaw" e.1 e.2 := List.forall_mem_cons.mpr ⟨nlk_99_0, List.forall_mem_cons.mpr ⟨nlk_99_1, fun _ h => absurd h List.not_mem_nil⟩⟩
def cls_99 : List (Nat × Nat × Nat) := []
theorem cls_99_ok : ∀ e ∈ cls_99, CS "WireDigsLaw" (.invokestatic e.1) 3 0 e.2.1 (mth e.2.2) := fun _ h => absurd h List.not_mem_nil
def cli_99 : List (Nat × Nat × Nat) := [(9, 1, 0), (12, 1, 94)]
theorem cli_99_0 : (fun e : Nat × Nat × Nat => ∀ tag, tag ≠ 0 → CS "WireDigsLaw" (.invokespecial e.1) 3 tag e.2.1 (mth e.2.2)) ((9, 1, 0)) := fun tag ht => CS.I mk_X0_init q159 q160 rfl rfl ht (by decide +kernel) (by decide +kernel)
theorem cli_99_1 : (fun e : Nat × Nat × Nat => ∀ tag, tag ≠ 0 → CS "WireDigsLaw" (.invokespecial e.1) 3 tag e.2.1 (mth e.2.2)) ((12, 1, 94)) := fun tag ht => CS.I mk_X4_init q2772 q2773 rfl rfl ht (by decide +kernel) (by decide +kernel)
theorem cli_99_ok : ∀ e ∈ cli_99, ∀ tag, tag ≠ 0 → CS "WireDigsLaw" (.invokespecial e.1) 3 tag e.2.1 (mth e.2.2) := List.forall_mem_cons.mpr ⟨cli_99_0, List.forall_mem_cons.mpr ⟨cli_99_1, fun _ h => absurd h List.not_mem_nil⟩⟩
def clv_99 : List (Instr × Nat × Nat × Nat × Nat) := [((.invokevirtual 13), 3, 1, 3, 1), ((.invokevirtual 17), 3, 5, 3, 96), ((.invokevirtual 18), 3, 1, 3, 5), ((.invokevirtual 21), 3, 5, 3, 102), ((.invokevirtual 22), 3, 1, 6, 9), ((.invokevirtual 26), 3, 5, 6, 105), ((.invokevirtual 27), 3, 1, 3, 12), ((.invokevirtual 30), 3, 5, 3, 106), ((.invokevirtual 31), 3, 1, 3, 13), ((.invokevirtual 34), 3, 5, 3, 110), ((.invokevirtual 35), 3, 1, 2, 15), ((.invokevirtual 39), 3, 5, 2, 113), ((.invokevirtual 40), 3, 1, 3, 16), ((.invokevirtual 43), 3, 5, 3, 114), ((.invokevirtual 44), 3, 1, 2, 17), ((.invokevirtual 47), 3, 5, 2, 115), ((.invokevirtual 48), 3, 1, 2, 24), ((.invokevirtual 51), 3, 5, 2, 126), ((.invokevirtual 52), 3, 1, 2, 25), ((.invokevirtual 55), 3, 5, 2, 136), ((.invokevirtual 56), 3, 1, 2, 26), ((.invokevirtual 59), 3, 5, 2, 138), ((.invokevirtual 60), 3, 1, 1, 27), ((.invokevirtual 64), 3, 5, 1, 144), ((.invokevirtual 65), 3, 1, 2, 28), ((.invokevirtual 68), 3, 5, 2, 150), ((.invokevirtual 69), 3, 1, 3, 29), ((.invokevirtual 72), 3, 5, 3, 152), ((.invokevirtual 73), 3, 1, 2, 31), ((.invokevirtual 76), 3, 5, 2, 154), ((.invokevirtual 77), 3, 1, 2, 32), ((.invokevirtual 80), 3, 5, 2, 155), ((.invokevirtual 81), 3, 1, 4, 33), ((.invokevirtual 85), 3, 5, 4, 156), ((.invokevirtual 86), 3, 1, 2, 34), ((.invokevirtual 89), 3, 5, 2, 157), ((.invokevirtual 90), 3, 1, 3, 39), ((.invokevirtual 93), 3, 5, 3, 159), ((.invokevirtual 94), 3, 1, 2, 40), ((.invokevirtual 97), 3, 5, 2, 160), ((.invokevirtual 98), 3, 1, 1, 41), ((.invokevirtual 101), 3, 5, 1, 161), ((.invokevirtual 102), 3, 1, 2, 42), ((.invokevirtual 105), 3, 5, 2, 162), ((.invokevirtual 106), 3, 1, 1, 45), ((.invokevirtual 109), 3, 5, 1, 95), ((.invokevirtual 110), 3, 1, 2, 46), ((.invokevirtual 113), 3, 5, 2, 166), ((.invokevirtual 114), 3, 1, 1, 47), ((.invokevirtual 117), 3, 5, 1, 167), ((.invokevirtual 118), 3, 1, 2, 48), ((.invokevirtual 121), 3, 5, 2, 168), ((.invokevirtual 122), 3, 1, 1, 49), ((.invokevirtual 125), 3, 5, 1, 174)]
theorem clv_99_0 : (fun e : Instr × Nat × Nat × Nat × Nat => CS "WireDigsLaw" e.1 e.2.1 e.2.2.1 e.2.2.2.1 (mth e.2.2.2.2)) (((.invokevirtual 13), 3, 1, 3, 1)) := CS.V (i := 0) mk_X0_set ⟨by decide, Or.inl rfl, rfl⟩ rfl q422 q423 q424 (by decide +kernel) (by decide +kernel)
theorem clv_99_1 : (fun e : Instr × Nat × Nat × Nat × Nat => CS "WireDigsLaw" e.1 e.2.1 e.2.2.1 e.2.2.2.1 (mth e.2.2.2.2)) (((.invokevirtual 17), 3, 5, 3, 96)) := CS.V (i := 4) mk_X4_set ⟨by decide, Or.inl rfl, rfl⟩ rfl q2839 q2840 q2841 (by decide +kernel) (by decide +kernel)
theorem clv_99_2 : (fun e : Instr × Nat × Nat × Nat × Nat => CS "WireDigsLaw" e.1 e.2.1 e.2.2.1 e.2.2.2.1 (mth e.2.2.2.2)) (((.invokevirtual 18), 3, 1, 3, 5)) := CS.V (i := 0) mk_X0_block ⟨by decide, Or.inl rfl, rfl⟩ rfl q1649 q1650 q1651 (by decide +kernel) (by decide +kernel)
theorem clv_99_3 : (fun e : Instr × Nat × Nat × Nat × Nat => CS "WireDigsLaw" e.1 e.2.1 e.2.2.1 e.2.2.2.1 (mth e.2.2.2.2)) (((.invokevirtual 21), 3, 5, 3, 102)) := CS.V (i := 4) mk_X4_block ⟨by decide, Or.inl rfl, rfl⟩ rfl q2861 q2862 q2863 (by decide +kernel) (by decide +kernel)
theorem clv_99_4 : (fun e : Instr × Nat × Nat × Nat × Nat => CS "WireDigsLaw" e.1 e.2.1 e.2.2.1 e.2.2.2.1 (mth e.2.2.2.2)) (((.invokevirtual 22), 3, 1, 6, 9)) := CS.V (i := 0) mk_X0_net ⟨by decide, Or.inl rfl, rfl⟩ rfl q1709 q1710 q1711 (by decide +kernel) (by decide +kernel)
theorem clv_99_5 : (fun e : Instr × Nat × Nat × Nat × Nat => CS "WireDigsLaw" e.1 e.2.1 e.2.2.1 e.2.2.2.1 (mth e.2.2.2.2)) (((.invokevirtual 26), 3, 5, 6, 105)) := CS.V (i := 4) mk_X4_net ⟨by decide, Or.inl rfl, rfl⟩ rfl q2873 q2874 q2875 (by decide +kernel) (by decide +kernel)
theorem clv_99_6 : (fun e : Instr × Nat × Nat × Nat × Nat => CS "WireDigsLaw" e.1 e.2.1 e.2.2.1 e.2.2.2.1 (mth e.2.2.2.2)) (((.invokevirtual 27), 3, 1, 3, 12)) := CS.V (i := 0) mk_X0_give ⟨by decide, Or.inl rfl, rfl⟩ rfl q1738 q1739 q1740 (by decide +kernel) (by decide +kernel)
theorem clv_99_7 : (fun e : Instr × Nat × Nat × Nat × Nat => CS "WireDigsLaw" e.1 e.2.1 e.2.2.1 e.2.2.2.1 (mth e.2.2.2.2)) (((.invokevirtual 30), 3, 5, 3, 106)) := CS.V (i := 4) mk_X4_give ⟨by decide, Or.inl rfl, rfl⟩ rfl q2878 q2879 q2880 (by decide +kernel) (by decide +kernel)
theorem clv_99_8 : (fun e : Instr × Nat × Nat × Nat × Nat => CS "WireDigsLaw" e.1 e.2.1 e.2.2.1 e.2.2.2.1 (mth e.2.2.2.2)) (((.invokevirtual 31), 3, 1, 3, 13)) := CS.V (i := 0) mk_X0_netOf ⟨by decide, Or.inl rfl, rfl⟩ rfl q1767 q1768 q1769 (by decide +kernel) (by decide +kernel)
theorem clv_99_9 : (fun e : Instr × Nat × Nat × Nat × Nat => CS "WireDigsLaw" e.1 e.2.1 e.2.2.1 e.2.2.2.1 (mth e.2.2.2.2)) (((.invokevirtual 34), 3, 5, 3, 110)) := CS.V (i := 4) mk_X4_netOf ⟨by decide, Or.inl rfl, rfl⟩ rfl q2895 q2896 q2897 (by decide +kernel) (by decide +kernel)
theorem clv_99_10 : (fun e : Instr × Nat × Nat × Nat × Nat => CS "WireDigsLaw" e.1 e.2.1 e.2.2.1 e.2.2.2.1 (mth e.2.2.2.2)) (((.invokevirtual 35), 3, 1, 2, 15)) := CS.V (i := 0) mk_X0_cellOf ⟨by decide, Or.inl rfl, rfl⟩ rfl q1869 q1870 q1871 (by decide +kernel) (by decide +kernel)
theorem clv_99_11 : (fun e : Instr × Nat × Nat × Nat × Nat => CS "WireDigsLaw" e.1 e.2.1 e.2.2.1 e.2.2.2.1 (mth e.2.2.2.2)) (((.invokevirtual 39), 3, 5, 2, 113)) := CS.V (i := 4) mk_X4_cellOf ⟨by decide, Or.inl rfl, rfl⟩ rfl q2908 q2909 q2910 (by decide +kernel) (by decide +kernel)
theorem clv_99_12 : (fun e : Instr × Nat × Nat × Nat × Nat => CS "WireDigsLaw" e.1 e.2.1 e.2.2.1 e.2.2.2.1 (mth e.2.2.2.2)) (((.invokevirtual 40), 3, 1, 3, 16)) := CS.V (i := 0) mk_X0_wireAt ⟨by decide, Or.inl rfl, rfl⟩ rfl q1892 q1893 q1894 (by decide +kernel) (by decide +kernel)
theorem clv_99_13 : (fun e : Instr × Nat × Nat × Nat × Nat => CS "WireDigsLaw" e.1 e.2.1 e.2.2.1 e.2.2.2.1 (mth e.2.2.2.2)) (((.invokevirtual 43), 3, 5, 3, 114)) := CS.V (i := 4) mk_X4_wireAt ⟨by decide, Or.inl rfl, rfl⟩ rfl q2912 q2913 q2914 (by decide +kernel) (by decide +kernel)
theorem clv_99_14 : (fun e : Instr × Nat × Nat × Nat × Nat => CS "WireDigsLaw" e.1 e.2.1 e.2.2.1 e.2.2.2.1 (mth e.2.2.2.2)) (((.invokevirtual 44), 3, 1, 2, 17)) := CS.V (i := 0) mk_X0_lay ⟨by decide, Or.inl rfl, rfl⟩ rfl q2069 q2070 q2071 (by decide +kernel) (by decide +kernel)
theorem clv_99_15 : (fun e : Instr × Nat × Nat × Nat × Nat => CS "WireDigsLaw" e.1 e.2.1 e.2.2.1 e.2.2.2.1 (mth e.2.2.2.2)) (((.invokevirtual 47), 3, 5, 2, 115)) := CS.V (i := 4) mk_X4_lay ⟨by decide, Or.inl rfl, rfl⟩ rfl q2916 q2917 q2918 (by decide +kernel) (by decide +kernel)
theorem clv_99_16 : (fun e : Instr × Nat × Nat × Nat × Nat => CS "WireDigsLaw" e.1 e.2.1 e.2.2.1 e.2.2.2.1 (mth e.2.2.2.2)) (((.invokevirtual 48), 3, 1, 2, 24)) := CS.V (i := 0) mk_X0_dig ⟨by decide, Or.inl rfl, rfl⟩ rfl q2362 q2363 q2364 (by decide +kernel) (by decide +kernel)
theorem clv_99_17 : (fun e : Instr × Nat × Nat × Nat × Nat => CS "WireDigsLaw" e.1 e.2.1 e.2.2.1 e.2.2.2.1 (mth e.2.2.2.2)) (((.invokevirtual 51), 3, 5, 2, 126)) := CS.V (i := 4) mk_X4_dig ⟨by decide, Or.inl rfl, rfl⟩ rfl q2960 q2961 q2962 (by decide +kernel) (by decide +kernel)
theorem clv_99_18 : (fun e : Instr × Nat × Nat × Nat × Nat => CS "WireDigsLaw" e.1 e.2.1 e.2.2.1 e.2.2.2.1 (mth e.2.2.2.2)) (((.invokevirtual 52), 3, 1, 2, 25)) := CS.V (i := 0) mk_X0_rip ⟨by decide, Or.inl rfl, rfl⟩ rfl q2366 q2367 q2368 (by decide +kernel) (by decide +kernel)
theorem clv_99_19 : (fun e : Instr × Nat × Nat × Nat × Nat => CS "WireDigsLaw" e.1 e.2.1 e.2.2.1 e.2.2.2.1 (mth e.2.2.2.2)) (((.invokevirtual 55), 3, 5, 2, 136)) := CS.V (i := 4) mk_X4_rip ⟨by decide, Or.inl rfl, rfl⟩ rfl q2999 q3000 q3001 (by decide +kernel) (by decide +kernel)
theorem clv_99_20 : (fun e : Instr × Nat × Nat × Nat × Nat => CS "WireDigsLaw" e.1 e.2.1 e.2.2.1 e.2.2.2.1 (mth e.2.2.2.2)) (((.invokevirtual 56), 3, 1, 2, 26)) := CS.V (i := 0) mk_X0_appeal ⟨by decide, Or.inl rfl, rfl⟩ rfl q2370 q2371 q2372 (by decide +kernel) (by decide +kernel)
theorem clv_99_21 : (fun e : Instr × Nat × Nat × Nat × Nat => CS "WireDigsLaw" e.1 e.2.1 e.2.2.1 e.2.2.2.1 (mth e.2.2.2.2)) (((.invokevirtual 59), 3, 5, 2, 138)) := CS.V (i := 4) mk_X4_appeal ⟨by decide, Or.inl rfl, rfl⟩ rfl q3007 q3008 q3009 (by decide +kernel) (by decide +kernel)
theorem clv_99_22 : (fun e : Instr × Nat × Nat × Nat × Nat => CS "WireDigsLaw" e.1 e.2.1 e.2.2.1 e.2.2.2.1 (mth e.2.2.2.2)) (((.invokevirtual 60), 3, 1, 1, 27)) := CS.V (i := 0) mk_X0_hear ⟨by decide, Or.inl rfl, rfl⟩ rfl q2374 q2375 q2376 (by decide +kernel) (by decide +kernel)
theorem clv_99_23 : (fun e : Instr × Nat × Nat × Nat × Nat => CS "WireDigsLaw" e.1 e.2.1 e.2.2.1 e.2.2.2.1 (mth e.2.2.2.2)) (((.invokevirtual 64), 3, 5, 1, 144)) := CS.V (i := 4) mk_X4_hear ⟨by decide, Or.inl rfl, rfl⟩ rfl q3031 q3032 q3033 (by decide +kernel) (by decide +kernel)
theorem clv_99_24 : (fun e : Instr × Nat × Nat × Nat × Nat => CS "WireDigsLaw" e.1 e.2.1 e.2.2.1 e.2.2.2.1 (mth e.2.2.2.2)) (((.invokevirtual 65), 3, 1, 2, 28)) := CS.V (i := 0) mk_X0_pass ⟨by decide, Or.inl rfl, rfl⟩ rfl q2378 q2379 q2380 (by decide +kernel) (by decide +kernel)
theorem clv_99_25 : (fun e : Instr × Nat × Nat × Nat × Nat => CS "WireDigsLaw" e.1 e.2.1 e.2.2.1 e.2.2.2.1 (mth e.2.2.2.2)) (((.invokevirtual 68), 3, 5, 2, 150)) := CS.V (i := 4) mk_X4_pass ⟨by decide, Or.inl rfl, rfl⟩ rfl q3055 q3056 q3057 (by decide +kernel) (by decide +kernel)
theorem clv_99_26 : (fun e : Instr × Nat × Nat × Nat × Nat => CS "WireDigsLaw" e.1 e.2.1 e.2.2.1 e.2.2.2.1 (mth e.2.2.2.2)) (((.invokevirtual 69), 3, 1, 3, 29)) := CS.V (i := 0) mk_X0_cost ⟨by decide, Or.inl rfl, rfl⟩ rfl q2382 q2383 q2384 (by decide +kernel) (by decide +kernel)
theorem clv_99_27 : (fun e : Instr × Nat × Nat × Nat × Nat => CS "WireDigsLaw" e.1 e.2.1 e.2.2.1 e.2.2.2.1 (mth e.2.2.2.2)) (((.invokevirtual 72), 3, 5, 3, 152)) := CS.V (i := 4) mk_X4_cost ⟨by decide, Or.inl rfl, rfl⟩ rfl q3063 q3064 q3065 (by decide +kernel) (by decide +kernel)
theorem clv_99_28 : (fun e : Instr × Nat × Nat × Nat × Nat => CS "WireDigsLaw" e.1 e.2.1 e.2.2.1 e.2.2.2.1 (mth e.2.2.2.2)) (((.invokevirtual 73), 3, 1, 2, 31)) := CS.V (i := 0) mk_X0_price ⟨by decide, Or.inl rfl, rfl⟩ rfl q2390 q2391 q2392 (by decide +kernel) (by decide +kernel)
theorem clv_99_29 : (fun e : Instr × Nat × Nat × Nat × Nat => CS "WireDigsLaw" e.1 e.2.1 e.2.2.1 e.2.2.2.1 (mth e.2.2.2.2)) (((.invokevirtual 76), 3, 5, 2, 154)) := CS.V (i := 4) mk_X4_price ⟨by decide, Or.inl rfl, rfl⟩ rfl q3071 q3072 q3073 (by decide +kernel) (by decide +kernel)
theorem clv_99_30 : (fun e : Instr × Nat × Nat × Nat × Nat => CS "WireDigsLaw" e.1 e.2.1 e.2.2.1 e.2.2.2.1 (mth e.2.2.2.2)) (((.invokevirtual 77), 3, 1, 2, 32)) := CS.V (i := 0) mk_X0_victims ⟨by decide, Or.inl rfl, rfl⟩ rfl q2394 q2395 q2396 (by decide +kernel) (by decide +kernel)
theorem clv_99_31 : (fun e : Instr × Nat × Nat × Nat × Nat => CS "WireDigsLaw" e.1 e.2.1 e.2.2.1 e.2.2.2.1 (mth e.2.2.2.2)) (((.invokevirtual 80), 3, 5, 2, 155)) := CS.V (i := 4) mk_X4_victims ⟨by decide, Or.inl rfl, rfl⟩ rfl q3075 q3076 q3077 (by decide +kernel) (by decide +kernel)
theorem clv_99_32 : (fun e : Instr × Nat × Nat × Nat × Nat => CS "WireDigsLaw" e.1 e.2.1 e.2.2.1 e.2.2.2.1 (mth e.2.2.2.2)) (((.invokevirtual 81), 3, 1, 4, 33)) := CS.V (i := 0) mk_X0_routeAt ⟨by decide, Or.inl rfl, rfl⟩ rfl q2398 q2399 q2400 (by decide +kernel) (by decide +kernel)
theorem clv_99_33 : (fun e : Instr × Nat × Nat × Nat × Nat => CS "WireDigsLaw" e.1 e.2.1 e.2.2.1 e.2.2.2.1 (mth e.2.2.2.2)) (((.invokevirtual 85), 3, 5, 4, 156)) := CS.V (i := 4) mk_X4_routeAt ⟨by decide, Or.inl rfl, rfl⟩ rfl q3079 q3080 q3081 (by decide +kernel) (by decide +kernel)
theorem clv_99_34 : (fun e : Instr × Nat × Nat × Nat × Nat => CS "WireDigsLaw" e.1 e.2.1 e.2.2.1 e.2.2.2.1 (mth e.2.2.2.2)) (((.invokevirtual 86), 3, 1, 2, 34)) := CS.V (i := 0) mk_X0_bestOrder ⟨by decide, Or.inl rfl, rfl⟩ rfl q2402 q2403 q2404 (by decide +kernel) (by decide +kernel)
theorem clv_99_35 : (fun e : Instr × Nat × Nat × Nat × Nat => CS "WireDigsLaw" e.1 e.2.1 e.2.2.1 e.2.2.2.1 (mth e.2.2.2.2)) (((.invokevirtual 89), 3, 5, 2, 157)) := CS.V (i := 4) mk_X4_bestOrder ⟨by decide, Or.inl rfl, rfl⟩ rfl q3083 q3084 q3085 (by decide +kernel) (by decide +kernel)
theorem clv_99_36 : (fun e : Instr × Nat × Nat × Nat × Nat => CS "WireDigsLaw" e.1 e.2.1 e.2.2.1 e.2.2.2.1 (mth e.2.2.2.2)) (((.invokevirtual 90), 3, 1, 3, 39)) := CS.V (i := 0) mk_X0_claimOf ⟨by decide, Or.inl rfl, rfl⟩ rfl q2446 q2447 q2448 (by decide +kernel) (by decide +kernel)
theorem clv_99_37 : (fun e : Instr × Nat × Nat × Nat × Nat => CS "WireDigsLaw" e.1 e.2.1 e.2.2.1 e.2.2.2.1 (mth e.2.2.2.2)) (((.invokevirtual 93), 3, 5, 3, 159)) := CS.V (i := 4) mk_X4_claimOf ⟨by decide, Or.inl rfl, rfl⟩ rfl q3091 q3092 q3093 (by decide +kernel) (by decide +kernel)
theorem clv_99_38 : (fun e : Instr × Nat × Nat × Nat × Nat => CS "WireDigsLaw" e.1 e.2.1 e.2.2.1 e.2.2.2.1 (mth e.2.2.2.2)) (((.invokevirtual 94), 3, 1, 2, 40)) := CS.V (i := 0) mk_X0_docketAt ⟨by decide, Or.inl rfl, rfl⟩ rfl q2454 q2455 q2456 (by decide +kernel) (by decide +kernel)
theorem clv_99_39 : (fun e : Instr × Nat × Nat × Nat × Nat => CS "WireDigsLaw" e.1 e.2.1 e.2.2.1 e.2.2.2.1 (mth e.2.2.2.2)) (((.invokevirtual 97), 3, 5, 2, 160)) := CS.V (i := 4) mk_X4_docketAt ⟨by decide, Or.inl rfl, rfl⟩ rfl q3095 q3096 q3097 (by decide +kernel) (by decide +kernel)
theorem clv_99_40 : (fun e : Instr × Nat × Nat × Nat × Nat => CS "WireDigsLaw" e.1 e.2.1 e.2.2.1 e.2.2.2.1 (mth e.2.2.2.2)) (((.invokevirtual 98), 3, 1, 1, 41)) := CS.V (i := 0) mk_X0_wronged ⟨by decide, Or.inl rfl, rfl⟩ rfl q2460 q2461 q2462 (by decide +kernel) (by decide +kernel)
theorem clv_99_41 : (fun e : Instr × Nat × Nat × Nat × Nat => CS "WireDigsLaw" e.1 e.2.1 e.2.2.1 e.2.2.2.1 (mth e.2.2.2.2)) (((.invokevirtual 101), 3, 5, 1, 161)) := CS.V (i := 4) mk_X4_wronged ⟨by decide, Or.inl rfl, rfl⟩ rfl q3099 q3100 q3101 (by decide +kernel) (by decide +kernel)
theorem clv_99_42 : (fun e : Instr × Nat × Nat × Nat × Nat => CS "WireDigsLaw" e.1 e.2.1 e.2.2.1 e.2.2.2.1 (mth e.2.2.2.2)) (((.invokevirtual 102), 3, 1, 2, 42)) := CS.V (i := 0) mk_X0_count ⟨by decide, Or.inl rfl, rfl⟩ rfl q2468 q2469 q2470 (by decide +kernel) (by decide +kernel)
theorem clv_99_43 : (fun e : Instr × Nat × Nat × Nat × Nat => CS "WireDigsLaw" e.1 e.2.1 e.2.2.1 e.2.2.2.1 (mth e.2.2.2.2)) (((.invokevirtual 105), 3, 5, 2, 162)) := CS.V (i := 4) mk_X4_count ⟨by decide, Or.inl rfl, rfl⟩ rfl q3103 q3104 q3105 (by decide +kernel) (by decide +kernel)
theorem clv_99_44 : (fun e : Instr × Nat × Nat × Nat × Nat => CS "WireDigsLaw" e.1 e.2.1 e.2.2.1 e.2.2.2.1 (mth e.2.2.2.2)) (((.invokevirtual 106), 3, 1, 1, 45)) := CS.V (i := 0) mk_X0_undo ⟨by decide, Or.inl rfl, rfl⟩ rfl q2525 q2526 q2527 (by decide +kernel) (by decide +kernel)
theorem clv_99_45 : (fun e : Instr × Nat × Nat × Nat × Nat => CS "WireDigsLaw" e.1 e.2.1 e.2.2.1 e.2.2.2.1 (mth e.2.2.2.2)) (((.invokevirtual 109), 3, 5, 1, 95)) := CS.V (i := 4) mk_X4_undo ⟨by decide, Or.inl rfl, rfl⟩ rfl q2834 q2835 q2836 (by decide +kernel) (by decide +kernel)
theorem clv_99_46 : (fun e : Instr × Nat × Nat × Nat × Nat => CS "WireDigsLaw" e.1 e.2.1 e.2.2.1 e.2.2.2.1 (mth e.2.2.2.2)) (((.invokevirtual 110), 3, 1, 2, 46)) := CS.V (i := 0) mk_X0_type ⟨by decide, Or.inl rfl, rfl⟩ rfl q2541 q2542 q2543 (by decide +kernel) (by decide +kernel)
theorem clv_99_47 : (fun e : Instr × Nat × Nat × Nat × Nat => CS "WireDigsLaw" e.1 e.2.1 e.2.2.1 e.2.2.2.1 (mth e.2.2.2.2)) (((.invokevirtual 113), 3, 5, 2, 166)) := CS.V (i := 4) mk_X4_type ⟨by decide, Or.inl rfl, rfl⟩ rfl q3119 q3120 q3121 (by decide +kernel) (by decide +kernel)
theorem clv_99_48 : (fun e : Instr × Nat × Nat × Nat × Nat => CS "WireDigsLaw" e.1 e.2.1 e.2.2.1 e.2.2.2.1 (mth e.2.2.2.2)) (((.invokevirtual 114), 3, 1, 1, 47)) := CS.V (i := 0) mk_X0_clearText ⟨by decide, Or.inl rfl, rfl⟩ rfl q2607 q2608 q2609 (by decide +kernel) (by decide +kernel)
theorem clv_99_49 : (fun e : Instr × Nat × Nat × Nat × Nat => CS "WireDigsLaw" e.1 e.2.1 e.2.2.1 e.2.2.2.1 (mth e.2.2.2.2)) (((.invokevirtual 117), 3, 5, 1, 167)) := CS.V (i := 4) mk_X4_clearText ⟨by decide, Or.inl rfl, rfl⟩ rfl q3123 q3124 q3125 (by decide +kernel) (by decide +kernel)
theorem clv_99_50 : (fun e : Instr × Nat × Nat × Nat × Nat => CS "WireDigsLaw" e.1 e.2.1 e.2.2.1 e.2.2.2.1 (mth e.2.2.2.2)) (((.invokevirtual 118), 3, 1, 2, 48)) := CS.V (i := 0) mk_X0_fault ⟨by decide, Or.inl rfl, rfl⟩ rfl q2631 q2632 q2633 (by decide +kernel) (by decide +kernel)
theorem clv_99_51 : (fun e : Instr × Nat × Nat × Nat × Nat => CS "WireDigsLaw" e.1 e.2.1 e.2.2.1 e.2.2.2.1 (mth e.2.2.2.2)) (((.invokevirtual 121), 3, 5, 2, 168)) := CS.V (i := 4) mk_X4_fault ⟨by decide, Or.inl rfl, rfl⟩ rfl q3127 q3128 q3129 (by decide +kernel) (by decide +kernel)
theorem clv_99_52 : (fun e : Instr × Nat × Nat × Nat × Nat => CS "WireDigsLaw" e.1 e.2.1 e.2.2.1 e.2.2.2.1 (mth e.2.2.2.2)) (((.invokevirtual 122), 3, 1, 1, 49)) := CS.V (i := 0) mk_X0_play ⟨by decide, Or.inl rfl, rfl⟩ rfl q2766 q2767 q2768 (by decide +kernel) (by decide +kernel)
theorem clv_99_53 : (fun e : Instr × Nat × Nat × Nat × Nat => CS "WireDigsLaw" e.1 e.2.1 e.2.2.1 e.2.2.2.1 (mth e.2.2.2.2)) (((.invokevirtual 125), 3, 5, 1, 174)) := CS.V (i := 4) mk_X4_play ⟨by decide, Or.inl rfl, rfl⟩ rfl q3151 q3152 q3153 (by decide +kernel) (by decide +kernel)
theorem clv_99_ok : ∀ e ∈ clv_99, CS "WireDigsLaw" e.1 e.2.1 e.2.2.1 e.2.2.2.1 (mth e.2.2.2.2) := List.forall_mem_cons.mpr ⟨clv_99_0, List.forall_mem_cons.mpr ⟨clv_99_1, List.forall_mem_cons.mpr ⟨clv_99_2, List.forall_mem_cons.mpr ⟨clv_99_3, List.forall_mem_cons.mpr ⟨clv_99_4, List.forall_mem_cons.mpr ⟨clv_99_5, List.forall_mem_cons.mpr ⟨clv_99_6, List.forall_mem_cons.mpr ⟨clv_99_7, List.forall_mem_cons.mpr ⟨clv_99_8, List.forall_mem_cons.mpr ⟨clv_99_9, List.forall_mem_cons.mpr ⟨clv_99_10, List.forall_mem_cons.mpr ⟨clv_99_11, List.forall_mem_cons.mpr ⟨clv_99_12, List.forall_mem_cons.mpr ⟨clv_99_13, List.forall_mem_cons.mpr ⟨clv_99_14, List.forall_mem_cons.mpr ⟨clv_99_15, List.forall_mem_cons.mpr ⟨clv_99_16, List.forall_mem_cons.mpr ⟨clv_99_17, List.forall_mem_cons.mpr ⟨clv_99_18, List.forall_mem_cons.mpr ⟨clv_99_19, List.forall_mem_cons.mpr ⟨clv_99_20, List.forall_mem_cons.mpr ⟨clv_99_21, List.forall_mem_cons.mpr ⟨clv_99_22, List.forall_mem_cons.mpr ⟨clv_99_23, List.forall_mem_cons.mpr ⟨clv_99_24, List.forall_mem_cons.mpr ⟨clv_99_25, List.forall_mem_cons.mpr ⟨clv_99_26, List.forall_mem_cons.mpr ⟨clv_99_27, List.forall_mem_cons.mpr ⟨clv_99_28, List.forall_mem_cons.mpr ⟨clv_99_29, List.forall_mem_cons.mpr ⟨clv_99_30, List.forall_mem_cons.mpr ⟨clv_99_31, List.forall_mem_cons.mpr ⟨clv_99_32, List.forall_mem_cons.mpr ⟨clv_99_33, List.forall_mem_cons.mpr ⟨clv_99_34, List.forall_mem_cons.mpr ⟨clv_99_35, List.forall_mem_cons.mpr ⟨clv_99_36, List.forall_mem_cons.mpr ⟨clv_99_37, List.forall_mem_cons.mpr ⟨clv_99_38, List.forall_mem_cons.mpr ⟨clv_99_39, List.forall_mem_cons.mpr ⟨clv_99_40, List.forall_mem_cons.mpr ⟨clv_99_41, List.forall_mem_cons.mpr ⟨clv_99_42, List.forall_mem_cons.mpr ⟨clv_99_43, List.forall_mem_cons.mpr ⟨clv_99_44, List.forall_mem_cons.mpr ⟨clv_99_45, List.forall_mem_cons.mpr ⟨clv_99_46, List.forall_mem_cons.mpr ⟨clv_99_47, List.forall_mem_cons.mpr ⟨clv_99_48, List.forall_mem_cons.mpr ⟨clv_99_49, List.forall_mem_cons.mpr ⟨clv_99_50, List.forall_mem_cons.mpr ⟨clv_99_51, List.forall_mem_cons.mpr ⟨clv_99_52, List.forall_mem_cons.mpr ⟨clv_99_53, fun _ h => absurd h List.not_mem_nil⟩⟩⟩⟩⟩⟩⟩⟩⟩⟩⟩⟩⟩⟩⟩⟩⟩⟩⟩⟩⟩⟩⟩⟩⟩⟩⟩⟩⟩⟩⟩⟩⟩⟩⟩⟩⟩⟩⟩⟩⟩⟩⟩⟩⟩⟩⟩⟩⟩⟩⟩⟩⟩⟩
def klk_99 : List (Nat × Nat) := []
theorem klk_99_ok : ∀ e ∈ klk_99, CG "WireDigsLaw" e.1 e.2 := fun _ h => absurd h List.not_mem_nil
def ilk_99 : List (Nat × Nat) := []
theorem ilk_99_ok : ∀ e ∈ ilk_99, CG "WireDigsLaw" e.1 e.2 := fun _ h => absurd h List.not_mem_nil
def slk_99 : List (Nat × Nat) := []
theorem slk_99_ok : ∀ e ∈ slk_99, GS "WireDigsLaw" e.1 e.2 := fun _ h => absurd h List.not_mem_nil
def alk_99 : List (Nat × Nat) := []
theorem alk_99_ok : ∀ e ∈ alk_99, AG "WireDigsLaw" e.1 e.2 := fun _ h => absurd h List.not_mem_nil
def dlk_99 : List (Nat × Int) := []
theorem dlk_99_ok : ∀ e ∈ dlk_99, Cond.constant "WireDigsLaw" e.1 (iI e.2) ∈ lw_all := fun _ h => absurd h List.not_mem_nil
def d2k_99 : List (Nat × Int) := []
theorem d2k_99_ok : ∀ e ∈ d2k_99, Cond.constantLong "WireDigsLaw" e.1 (lI e.2) ∈ lw_all := fun _ h => absurd h List.not_mem_nil
def fck_99 : List (Nat × UInt32) := []
theorem fck_99_ok : ∀ e ∈ fck_99, Cond.constantFloat "WireDigsLaw" e.1 e.2 ∈ lw_all := fun _ h => absurd h List.not_mem_nil
def flkL (o : Nat) : List (Nat × Nat × Nat) := match o with
  | 0 => flk_0
  | 1 => flk_1
  | 2 => flk_2
  | 3 => flk_3
  | 4 => flk_4
  | 5 => flk_5
  | 6 => flk_6
  | 7 => flk_7
  | 8 => flk_8
  | 9 => flk_9
  | 10 => flk_10
  | 102 => flk_102
  | 104 => flk_104
  | 105 => flk_105
  | 106 => flk_106
  | 107 => flk_107
  | 109 => flk_109
  | 111 => flk_111
  | 112 => flk_112
  | 114 => flk_114
  | 118 => flk_118
  | 122 => flk_122
  | 125 => flk_125
  | 127 => flk_127
  | 128 => flk_128
  | 131 => flk_131
  | 141 => flk_141
  | 143 => flk_143
  | _ => []
theorem flkL_ok (o : Nat) : ∀ e ∈ flkL o, FG (onm o) e.1 e.2.1 e.2.2 := by
  unfold flkL
  split
  · exact flk_0_ok
  · exact flk_1_ok
  · exact flk_2_ok
  · exact flk_3_ok
  · exact flk_4_ok
  · exact flk_5_ok
  · exact flk_6_ok
  · exact flk_7_ok
  · exact flk_8_ok
  · exact flk_9_ok
  · exact flk_10_ok
  · exact flk_102_ok
  · exact flk_104_ok
  · exact flk_105_ok
  · exact flk_106_ok
  · exact flk_107_ok
  · exact flk_109_ok
  · exact flk_111_ok
  · exact flk_112_ok
  · exact flk_114_ok
  · exact flk_118_ok
  · exact flk_122_ok
  · exact flk_125_ok
  · exact flk_127_ok
  · exact flk_128_ok
  · exact flk_131_ok
  · exact flk_141_ok
  · exact flk_143_ok
  · intro e h; exact absurd h List.not_mem_nil
def plkL (o : Nat) : List (Nat × Nat × Nat × FieldType × Bool) := match o with
  | 0 => plk_0
  | 1 => plk_1
  | 2 => plk_2
  | 3 => plk_3
  | 4 => plk_4
  | 5 => plk_5
  | 6 => plk_6
  | 7 => plk_7
  | 8 => plk_8
  | 9 => plk_9
  | 10 => plk_10
  | 101 => plk_101
  | 102 => plk_102
  | 104 => plk_104
  | 105 => plk_105
  | 106 => plk_106
  | 107 => plk_107
  | 111 => plk_111
  | 112 => plk_112
  | 114 => plk_114
  | 118 => plk_118
  | 122 => plk_122
  | 125 => plk_125
  | 127 => plk_127
  | 131 => plk_131
  | 140 => plk_140
  | 141 => plk_141
  | 143 => plk_143
  | _ => []
theorem plkL_ok (o : Nat) : ∀ e ∈ plkL o, PG (onm o) e.1 e.2.1 e.2.2.1 e.2.2.2.1 e.2.2.2.2 := by
  unfold plkL
  split
  · exact plk_0_ok
  · exact plk_1_ok
  · exact plk_2_ok
  · exact plk_3_ok
  · exact plk_4_ok
  · exact plk_5_ok
  · exact plk_6_ok
  · exact plk_7_ok
  · exact plk_8_ok
  · exact plk_9_ok
  · exact plk_10_ok
  · exact plk_101_ok
  · exact plk_102_ok
  · exact plk_104_ok
  · exact plk_105_ok
  · exact plk_106_ok
  · exact plk_107_ok
  · exact plk_111_ok
  · exact plk_112_ok
  · exact plk_114_ok
  · exact plk_118_ok
  · exact plk_122_ok
  · exact plk_125_ok
  · exact plk_127_ok
  · exact plk_131_ok
  · exact plk_140_ok
  · exact plk_141_ok
  · exact plk_143_ok
  · intro e h; exact absurd h List.not_mem_nil
def nlkL (o : Nat) : List (Nat × Nat) := match o with
  | 0 => nlk_0
  | 1 => nlk_1
  | 2 => nlk_2
  | 5 => nlk_5
  | 6 => nlk_6
  | 7 => nlk_7
  | 8 => nlk_8
  | 10 => nlk_10
  | 102 => nlk_102
  | 105 => nlk_105
  | 112 => nlk_112
  | 114 => nlk_114
  | 118 => nlk_118
  | 125 => nlk_125
  | 141 => nlk_141
  | 99 => nlk_99
  | _ => []
theorem nlkL_ok (o : Nat) : ∀ e ∈ nlkL o, NG (onm o) e.1 e.2 := by
  unfold nlkL
  split
  · exact nlk_0_ok
  · exact nlk_1_ok
  · exact nlk_2_ok
  · exact nlk_5_ok
  · exact nlk_6_ok
  · exact nlk_7_ok
  · exact nlk_8_ok
  · exact nlk_10_ok
  · exact nlk_102_ok
  · exact nlk_105_ok
  · exact nlk_112_ok
  · exact nlk_114_ok
  · exact nlk_118_ok
  · exact nlk_125_ok
  · exact nlk_141_ok
  · exact nlk_99_ok
  · intro e h; exact absurd h List.not_mem_nil
def clsL (o : Nat) : List (Nat × Nat × Nat) := match o with
  | 0 => cls_0
  | 1 => cls_1
  | 2 => cls_2
  | 3 => cls_3
  | 4 => cls_4
  | 5 => cls_5
  | 6 => cls_6
  | 7 => cls_7
  | 9 => cls_9
  | 10 => cls_10
  | 102 => cls_102
  | 104 => cls_104
  | 106 => cls_106
  | 107 => cls_107
  | 109 => cls_109
  | 112 => cls_112
  | 127 => cls_127
  | 129 => cls_129
  | 130 => cls_130
  | 138 => cls_138
  | 139 => cls_139
  | 143 => cls_143
  | _ => []
theorem clsL_ok (o : Nat) : ∀ e ∈ clsL o, CS (onm o) (.invokestatic e.1) 3 0 e.2.1 (mth e.2.2) := by
  unfold clsL
  split
  · exact cls_0_ok
  · exact cls_1_ok
  · exact cls_2_ok
  · exact cls_3_ok
  · exact cls_4_ok
  · exact cls_5_ok
  · exact cls_6_ok
  · exact cls_7_ok
  · exact cls_9_ok
  · exact cls_10_ok
  · exact cls_102_ok
  · exact cls_104_ok
  · exact cls_106_ok
  · exact cls_107_ok
  · exact cls_109_ok
  · exact cls_112_ok
  · exact cls_127_ok
  · exact cls_129_ok
  · exact cls_130_ok
  · exact cls_138_ok
  · exact cls_139_ok
  · exact cls_143_ok
  · intro e h; exact absurd h List.not_mem_nil
def cliL (o : Nat) : List (Nat × Nat × Nat) := match o with
  | 0 => cli_0
  | 1 => cli_1
  | 2 => cli_2
  | 3 => cli_3
  | 4 => cli_4
  | 5 => cli_5
  | 6 => cli_6
  | 7 => cli_7
  | 8 => cli_8
  | 9 => cli_9
  | 10 => cli_10
  | 100 => cli_100
  | 101 => cli_101
  | 102 => cli_102
  | 103 => cli_103
  | 104 => cli_104
  | 105 => cli_105
  | 106 => cli_106
  | 107 => cli_107
  | 108 => cli_108
  | 111 => cli_111
  | 112 => cli_112
  | 113 => cli_113
  | 114 => cli_114
  | 115 => cli_115
  | 116 => cli_116
  | 118 => cli_118
  | 122 => cli_122
  | 123 => cli_123
  | 125 => cli_125
  | 127 => cli_127
  | 128 => cli_128
  | 131 => cli_131
  | 132 => cli_132
  | 140 => cli_140
  | 141 => cli_141
  | 142 => cli_142
  | 143 => cli_143
  | 99 => cli_99
  | _ => []
theorem cliL_ok (o : Nat) : ∀ e ∈ cliL o, ∀ tag, tag ≠ 0 → CS (onm o) (.invokespecial e.1) 3 tag e.2.1 (mth e.2.2) := by
  unfold cliL
  split
  · exact cli_0_ok
  · exact cli_1_ok
  · exact cli_2_ok
  · exact cli_3_ok
  · exact cli_4_ok
  · exact cli_5_ok
  · exact cli_6_ok
  · exact cli_7_ok
  · exact cli_8_ok
  · exact cli_9_ok
  · exact cli_10_ok
  · exact cli_100_ok
  · exact cli_101_ok
  · exact cli_102_ok
  · exact cli_103_ok
  · exact cli_104_ok
  · exact cli_105_ok
  · exact cli_106_ok
  · exact cli_107_ok
  · exact cli_108_ok
  · exact cli_111_ok
  · exact cli_112_ok
  · exact cli_113_ok
  · exact cli_114_ok
  · exact cli_115_ok
  · exact cli_116_ok
  · exact cli_118_ok
  · exact cli_122_ok
  · exact cli_123_ok
  · exact cli_125_ok
  · exact cli_127_ok
  · exact cli_128_ok
  · exact cli_131_ok
  · exact cli_132_ok
  · exact cli_140_ok
  · exact cli_141_ok
  · exact cli_142_ok
  · exact cli_143_ok
  · exact cli_99_ok
  · intro e h; exact absurd h List.not_mem_nil
def clvL (o : Nat) : List (Instr × Nat × Nat × Nat × Nat) := match o with
  | 0 => clv_0
  | 1 => clv_1
  | 2 => clv_2
  | 3 => clv_3
  | 4 => clv_4
  | 5 => clv_5
  | 6 => clv_6
  | 7 => clv_7
  | 8 => clv_8
  | 9 => clv_9
  | 10 => clv_10
  | 102 => clv_102
  | 104 => clv_104
  | 105 => clv_105
  | 106 => clv_106
  | 107 => clv_107
  | 108 => clv_108
  | 109 => clv_109
  | 111 => clv_111
  | 112 => clv_112
  | 114 => clv_114
  | 123 => clv_123
  | 128 => clv_128
  | 141 => clv_141
  | 143 => clv_143
  | 99 => clv_99
  | _ => []
theorem clvL_ok (o : Nat) : ∀ e ∈ clvL o, CS (onm o) e.1 e.2.1 e.2.2.1 e.2.2.2.1 (mth e.2.2.2.2) := by
  unfold clvL
  split
  · exact clv_0_ok
  · exact clv_1_ok
  · exact clv_2_ok
  · exact clv_3_ok
  · exact clv_4_ok
  · exact clv_5_ok
  · exact clv_6_ok
  · exact clv_7_ok
  · exact clv_8_ok
  · exact clv_9_ok
  · exact clv_10_ok
  · exact clv_102_ok
  · exact clv_104_ok
  · exact clv_105_ok
  · exact clv_106_ok
  · exact clv_107_ok
  · exact clv_108_ok
  · exact clv_109_ok
  · exact clv_111_ok
  · exact clv_112_ok
  · exact clv_114_ok
  · exact clv_123_ok
  · exact clv_128_ok
  · exact clv_141_ok
  · exact clv_143_ok
  · exact clv_99_ok
  · intro e h; exact absurd h List.not_mem_nil
def klkL (o : Nat) : List (Nat × Nat) := match o with
  | 0 => klk_0
  | 1 => klk_1
  | 2 => klk_2
  | 3 => klk_3
  | 5 => klk_5
  | 6 => klk_6
  | 7 => klk_7
  | 9 => klk_9
  | 105 => klk_105
  | 112 => klk_112
  | _ => []
theorem klkL_ok (o : Nat) : ∀ e ∈ klkL o, CG (onm o) e.1 e.2 := by
  unfold klkL
  split
  · exact klk_0_ok
  · exact klk_1_ok
  · exact klk_2_ok
  · exact klk_3_ok
  · exact klk_5_ok
  · exact klk_6_ok
  · exact klk_7_ok
  · exact klk_9_ok
  · exact klk_105_ok
  · exact klk_112_ok
  · intro e h; exact absurd h List.not_mem_nil
def ilkL (o : Nat) : List (Nat × Nat) := match o with
  | 7 => ilk_7
  | _ => []
theorem ilkL_ok (o : Nat) : ∀ e ∈ ilkL o, CG (onm o) e.1 e.2 := by
  unfold ilkL
  split
  · exact ilk_7_ok
  · intro e h; exact absurd h List.not_mem_nil
def slkL (o : Nat) : List (Nat × Nat) := match o with
  | 102 => slk_102
  | 107 => slk_107
  | 109 => slk_109
  | 114 => slk_114
  | 118 => slk_118
  | _ => []
theorem slkL_ok (o : Nat) : ∀ e ∈ slkL o, GS (onm o) e.1 e.2 := by
  unfold slkL
  split
  · exact slk_102_ok
  · exact slk_107_ok
  · exact slk_109_ok
  · exact slk_114_ok
  · exact slk_118_ok
  · intro e h; exact absurd h List.not_mem_nil
def alkL (o : Nat) : List (Nat × Nat) := match o with
  | 102 => alk_102
  | 104 => alk_104
  | 106 => alk_106
  | 138 => alk_138
  | 143 => alk_143
  | _ => []
theorem alkL_ok (o : Nat) : ∀ e ∈ alkL o, AG (onm o) e.1 e.2 := by
  unfold alkL
  split
  · exact alk_102_ok
  · exact alk_104_ok
  · exact alk_106_ok
  · exact alk_138_ok
  · exact alk_143_ok
  · intro e h; exact absurd h List.not_mem_nil
def dlkL (o : Nat) : List (Nat × Int) := match o with
  | 0 => dlk_0
  | 3 => dlk_3
  | 4 => dlk_4
  | 104 => dlk_104
  | 107 => dlk_107
  | 130 => dlk_130
  | _ => []
theorem dlkL_ok (o : Nat) : ∀ e ∈ dlkL o, Cond.constant (onm o) e.1 (iI e.2) ∈ lw_all := by
  unfold dlkL
  split
  · exact dlk_0_ok
  · exact dlk_3_ok
  · exact dlk_4_ok
  · exact dlk_104_ok
  · exact dlk_107_ok
  · exact dlk_130_ok
  · intro e h; exact absurd h List.not_mem_nil
def d2kL (o : Nat) : List (Nat × Int) := match o with
  | 0 => d2k_0
  | 3 => d2k_3
  | 10 => d2k_10
  | _ => []
theorem d2kL_ok (o : Nat) : ∀ e ∈ d2kL o, Cond.constantLong (onm o) e.1 (lI e.2) ∈ lw_all := by
  unfold d2kL
  split
  · exact d2k_0_ok
  · exact d2k_3_ok
  · exact d2k_10_ok
  · intro e h; exact absurd h List.not_mem_nil
def fckL (o : Nat) : List (Nat × UInt32) := match o with
  | 104 => fck_104
  | 115 => fck_115
  | _ => []
theorem fckL_ok (o : Nat) : ∀ e ∈ fckL o, Cond.constantFloat (onm o) e.1 e.2 ∈ lw_all := by
  unfold fckL
  split
  · exact fck_104_ok
  · exact fck_115_ok
  · intro e h; exact absurd h List.not_mem_nil
